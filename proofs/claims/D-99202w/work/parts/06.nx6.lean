/-! IslandCallModel -/
set_option maxRecDepth 100000
def RX6 : String := "IslandCallModel"
def TX6 : u_T := fun k => match k with
  | 0 => ("IslandCallModel", "at", "[I", true)
  | 1 => ("IslandCallModel", "names", "[J", true)
  | 2 => ("IslandCallModel", "status", "I", false)
  | 3 => ("IslandCallModel", "top", "J", false)
  | 4 => ("IslandCallModel", "bottom", "J", false)
  | 5 => ("IslandCallModel", "sort", "[I", true)
  | 6 => ("IslandCallModel", "trayMany", "[I", true)
  | 7 => ("IslandCallModel", "trays", "[J", true)
  | 8 => ("IslandCallModel", "tape", "[B", true)
  | 9 => ("IslandCallModel", "text", "[B", true)
  | 10 => ("IslandCallModel", "taped", "I", false)
  | 11 => ("IslandCallModel", "size", "I", false)
  | 12 => ("IslandCallModel", "token", "I", false)
  | 13 => ("IslandCallModel", "from", "I", false)
  | 14 => ("IslandCallModel", "end", "I", false)
  | 15 => ("IslandCallModel", "value", "I", false)
  | 16 => ("IslandCallModel", "faultKind", "I", false)
  | 17 => ("IslandCallModel", "faultPlace", "I", false)
  | 18 => ("IslandCallModel", "faults", "I", false)
  | 19 => ("IslandCallModel", "seen", "I", false)
  | 20 => ("IslandCallModel", "toldParts", "I", false)
  | 21 => ("IslandCallModel", "opened", "[I", true)
  | 22 => ("IslandCallModel", "depth", "I", false)
  | 23 => ("IslandCallModel", "counted", "I", false)
  | 24 => ("IslandCallModel", "roseIn", "[I", true)
  | 25 => ("IslandCallModel", "roundMany", "I", false)
  | 26 => ("IslandCallModel", "cameBy", "[I", true)
  | 27 => ("IslandCallModel", "cameThen", "[I", true)
  | 28 => ("IslandCallModel", "firstOmen", "I", false)
  | 29 => ("IslandCallModel", "madeBy", "[J", true)
  | 30 => ("IslandCallModel", "drawn", "I", false)
  | 31 => ("IslandCallModel", "ranSteps", "I", false)
  | 32 => ("IslandCallModel", "loops", "[I", true)
  | 33 => ("IslandCallModel", "ran", "[I", true)
  | 34 => ("IslandCallModel", "told1", "[I", true)
  | 35 => ("IslandCallModel", "isTold", "Z", false)
  | _ => ("IslandCallModel", "marks", "I", false)
def tyX6 : Nat → FieldType := fun k => match k with
  | 0 => .array .int
  | 1 => .array .long
  | 2 => .int
  | 3 => .long
  | 4 => .long
  | 5 => .array .int
  | 6 => .array .int
  | 7 => .array .long
  | 8 => .array .byte
  | 9 => .array .byte
  | 10 => .int
  | 11 => .int
  | 12 => .int
  | 13 => .int
  | 14 => .int
  | 15 => .int
  | 16 => .int
  | 17 => .int
  | 18 => .int
  | 19 => .int
  | 20 => .int
  | 21 => .array .int
  | 22 => .int
  | 23 => .int
  | 24 => .array .int
  | 25 => .int
  | 26 => .array .int
  | 27 => .array .int
  | 28 => .int
  | 29 => .array .long
  | 30 => .int
  | 31 => .int
  | 32 => .array .int
  | 33 => .array .int
  | 34 => .array .int
  | 35 => .boolean
  | _ => .int
abbrev wsX60 : List Cond := u_ws RX6 TX6 37
set_option maxRecDepth 100000 in
theorem nmX6 : ∀ a, a < 37 → ∀ b, b < 37 → a ≠ b → (TX6 a).2.1 ≠ (TX6 b).2.1 := by decide +kernel
set_option maxRecDepth 100000 in
theorem tyX6_ok : ∀ k, k < 37 → parseFieldDescriptor (TX6 k).2.2.1 = some (tyX6 k) := by decide +kernel
abbrev cX6_init : ByteArray := prog_15_method_1_code
def yX6_init : MethodName := ⟨RX6, "<init>", "()V"⟩
def dkwX6_init_6 : List UInt8 := [188, 10, 181, 0, 62, 42, 8, 188, 10, 181, 0, 65, 42, 3, 182, 0, 68, 177]
abbrev dktX6_init_6 : List UInt8 := dkwX6_init_6 ++ []
def dkwX6_init_5 : List UInt8 := [188, 10, 181, 0, 53, 42, 16, 13, 188, 11, 181, 0, 56, 42, 16, 80, 188, 10, 181, 0, 59, 42, 8]
abbrev dktX6_init_5 : List UInt8 := dkwX6_init_5 ++ dktX6_init_6
def dkwX6_init_4 : List UInt8 := [188, 10, 181, 0, 44, 42, 16, 8, 188, 10, 181, 0, 47, 42, 16, 64, 188, 10, 181, 0, 50, 42, 16, 64]
abbrev dktX6_init_4 : List UInt8 := dkwX6_init_4 ++ dktX6_init_5
def dkwX6_init_3 : List UInt8 := [181, 0, 30, 42, 17, 3, 132, 188, 8, 181, 0, 34, 42, 2, 181, 0, 37, 42, 2, 181, 0, 41, 42, 6]
abbrev dktX6_init_3 : List UInt8 := dkwX6_init_3 ++ dktX6_init_4
def dkwX6_init_2 : List UInt8 := [2, 79, 89, 6, 2, 79, 181, 0, 24, 42, 17, 0, 240, 188, 11, 181, 0, 27, 42, 17, 3, 132, 188, 8]
abbrev dktX6_init_2 : List UInt8 := dkwX6_init_2 ++ dktX6_init_3
def dkwX6_init_1 : List UInt8 := [181, 0, 17, 42, 7, 188, 10, 181, 0, 21, 42, 7, 188, 10, 89, 3, 2, 79, 89, 4, 2, 79, 89, 5]
abbrev dktX6_init_1 : List UInt8 := dkwX6_init_1 ++ dktX6_init_2
def dkwX6_init_0 : List UInt8 := [42, 183, 0, 1, 42, 17, 10, 32, 188, 10, 181, 0, 7, 42, 16, 84, 188, 11, 181, 0, 13, 42, 10]
abbrev dktX6_init_0 : List UInt8 := dkwX6_init_0 ++ dktX6_init_1
theorem dksX6_init_0 : cX6_init.data.toList.drop 0 = dktX6_init_0 := by decide +kernel
theorem dksX6_init_1 : cX6_init.data.toList.drop 23 = dktX6_init_1 := dk_seg dksX6_init_0 23 rfl rfl
theorem dksX6_init_2 : cX6_init.data.toList.drop 47 = dktX6_init_2 := dk_seg dksX6_init_1 24 rfl rfl
theorem dksX6_init_3 : cX6_init.data.toList.drop 71 = dktX6_init_3 := dk_seg dksX6_init_2 24 rfl rfl
theorem dksX6_init_4 : cX6_init.data.toList.drop 95 = dktX6_init_4 := dk_seg dksX6_init_3 24 rfl rfl
theorem dksX6_init_5 : cX6_init.data.toList.drop 119 = dktX6_init_5 := dk_seg dksX6_init_4 24 rfl rfl
theorem dksX6_init_6 : cX6_init.data.toList.drop 142 = dktX6_init_6 := dk_seg dksX6_init_5 23 rfl rfl
theorem dX6_init_0 : decode cX6_init 0 = .ok (.aload_n 0, 1) := dk_42 (dk_at dksX6_init_0 0 rfl rfl)
theorem dX6_init_1 : decode cX6_init 1 = .ok (.invokespecial 1, 3) := dk_183 0 1 (dk_at dksX6_init_0 1 rfl rfl)
theorem dX6_init_4 : decode cX6_init 4 = .ok (.aload_n 0, 1) := dk_42 (dk_at dksX6_init_0 4 rfl rfl)
theorem dX6_init_5 : decode cX6_init 5 = .ok (.sipush 2592, 3) := dk_17 10 32 (dk_at dksX6_init_0 5 rfl rfl)
theorem dX6_init_8 : decode cX6_init 8 = .ok (.newarray .int, 2) := dk_188_10 (dk_at dksX6_init_0 8 rfl rfl)
theorem dX6_init_10 : decode cX6_init 10 = .ok (.putfield 7, 3) := dk_181 0 7 (dk_at dksX6_init_0 10 rfl rfl)
theorem dX6_init_13 : decode cX6_init 13 = .ok (.aload_n 0, 1) := dk_42 (dk_at dksX6_init_0 13 rfl rfl)
theorem dX6_init_14 : decode cX6_init 14 = .ok (.bipush 84, 2) := dk_16 84 (dk_at dksX6_init_0 14 rfl rfl)
theorem dX6_init_16 : decode cX6_init 16 = .ok (.newarray .long, 2) := dk_188_11 (dk_at dksX6_init_0 16 rfl rfl)
theorem dX6_init_18 : decode cX6_init 18 = .ok (.putfield 13, 3) := dk_181 0 13 (dk_at dksX6_init_0 18 rfl rfl)
theorem dX6_init_21 : decode cX6_init 21 = .ok (.aload_n 0, 1) := dk_42 (dk_at dksX6_init_0 21 rfl rfl)
theorem dX6_init_22 : decode cX6_init 22 = .ok (.lconst 1, 1) := dk_10 (dk_at dksX6_init_0 22 rfl rfl)
theorem dX6_init_23 : decode cX6_init 23 = .ok (.putfield 17, 3) := dk_181 0 17 (dk_at dksX6_init_1 0 rfl rfl)
theorem dX6_init_26 : decode cX6_init 26 = .ok (.aload_n 0, 1) := dk_42 (dk_at dksX6_init_1 3 rfl rfl)
theorem dX6_init_27 : decode cX6_init 27 = .ok (.iconst 4, 1) := dk_7 (dk_at dksX6_init_1 4 rfl rfl)
theorem dX6_init_28 : decode cX6_init 28 = .ok (.newarray .int, 2) := dk_188_10 (dk_at dksX6_init_1 5 rfl rfl)
theorem dX6_init_30 : decode cX6_init 30 = .ok (.putfield 21, 3) := dk_181 0 21 (dk_at dksX6_init_1 7 rfl rfl)
theorem dX6_init_33 : decode cX6_init 33 = .ok (.aload_n 0, 1) := dk_42 (dk_at dksX6_init_1 10 rfl rfl)
theorem dX6_init_34 : decode cX6_init 34 = .ok (.iconst 4, 1) := dk_7 (dk_at dksX6_init_1 11 rfl rfl)
theorem dX6_init_35 : decode cX6_init 35 = .ok (.newarray .int, 2) := dk_188_10 (dk_at dksX6_init_1 12 rfl rfl)
theorem dX6_init_37 : decode cX6_init 37 = .ok (.dup, 1) := dk_89 (dk_at dksX6_init_1 14 rfl rfl)
theorem dX6_init_38 : decode cX6_init 38 = .ok (.iconst 0, 1) := dk_3 (dk_at dksX6_init_1 15 rfl rfl)
theorem dX6_init_39 : decode cX6_init 39 = .ok (.iconst (-1), 1) := dk_2 (dk_at dksX6_init_1 16 rfl rfl)
theorem dX6_init_40 : decode cX6_init 40 = .ok (.iastore, 1) := dk_79 (dk_at dksX6_init_1 17 rfl rfl)
theorem dX6_init_41 : decode cX6_init 41 = .ok (.dup, 1) := dk_89 (dk_at dksX6_init_1 18 rfl rfl)
theorem dX6_init_42 : decode cX6_init 42 = .ok (.iconst 1, 1) := dk_4 (dk_at dksX6_init_1 19 rfl rfl)
theorem dX6_init_43 : decode cX6_init 43 = .ok (.iconst (-1), 1) := dk_2 (dk_at dksX6_init_1 20 rfl rfl)
theorem dX6_init_44 : decode cX6_init 44 = .ok (.iastore, 1) := dk_79 (dk_at dksX6_init_1 21 rfl rfl)
theorem dX6_init_45 : decode cX6_init 45 = .ok (.dup, 1) := dk_89 (dk_at dksX6_init_1 22 rfl rfl)
theorem dX6_init_46 : decode cX6_init 46 = .ok (.iconst 2, 1) := dk_5 (dk_at dksX6_init_1 23 rfl rfl)
theorem dX6_init_47 : decode cX6_init 47 = .ok (.iconst (-1), 1) := dk_2 (dk_at dksX6_init_2 0 rfl rfl)
theorem dX6_init_48 : decode cX6_init 48 = .ok (.iastore, 1) := dk_79 (dk_at dksX6_init_2 1 rfl rfl)
theorem dX6_init_49 : decode cX6_init 49 = .ok (.dup, 1) := dk_89 (dk_at dksX6_init_2 2 rfl rfl)
theorem dX6_init_50 : decode cX6_init 50 = .ok (.iconst 3, 1) := dk_6 (dk_at dksX6_init_2 3 rfl rfl)
theorem dX6_init_51 : decode cX6_init 51 = .ok (.iconst (-1), 1) := dk_2 (dk_at dksX6_init_2 4 rfl rfl)
theorem dX6_init_52 : decode cX6_init 52 = .ok (.iastore, 1) := dk_79 (dk_at dksX6_init_2 5 rfl rfl)
theorem dX6_init_53 : decode cX6_init 53 = .ok (.putfield 24, 3) := dk_181 0 24 (dk_at dksX6_init_2 6 rfl rfl)
theorem dX6_init_56 : decode cX6_init 56 = .ok (.aload_n 0, 1) := dk_42 (dk_at dksX6_init_2 9 rfl rfl)
theorem dX6_init_57 : decode cX6_init 57 = .ok (.sipush 240, 3) := dk_17 0 240 (dk_at dksX6_init_2 10 rfl rfl)
theorem dX6_init_60 : decode cX6_init 60 = .ok (.newarray .long, 2) := dk_188_11 (dk_at dksX6_init_2 13 rfl rfl)
theorem dX6_init_62 : decode cX6_init 62 = .ok (.putfield 27, 3) := dk_181 0 27 (dk_at dksX6_init_2 15 rfl rfl)
theorem dX6_init_65 : decode cX6_init 65 = .ok (.aload_n 0, 1) := dk_42 (dk_at dksX6_init_2 18 rfl rfl)
theorem dX6_init_66 : decode cX6_init 66 = .ok (.sipush 900, 3) := dk_17 3 132 (dk_at dksX6_init_2 19 rfl rfl)
theorem dX6_init_69 : decode cX6_init 69 = .ok (.newarray .byte, 2) := dk_188_8 (dk_at dksX6_init_2 22 rfl rfl)
theorem dX6_init_71 : decode cX6_init 71 = .ok (.putfield 30, 3) := dk_181 0 30 (dk_at dksX6_init_3 0 rfl rfl)
theorem dX6_init_74 : decode cX6_init 74 = .ok (.aload_n 0, 1) := dk_42 (dk_at dksX6_init_3 3 rfl rfl)
theorem dX6_init_75 : decode cX6_init 75 = .ok (.sipush 900, 3) := dk_17 3 132 (dk_at dksX6_init_3 4 rfl rfl)
theorem dX6_init_78 : decode cX6_init 78 = .ok (.newarray .byte, 2) := dk_188_8 (dk_at dksX6_init_3 7 rfl rfl)
theorem dX6_init_80 : decode cX6_init 80 = .ok (.putfield 34, 3) := dk_181 0 34 (dk_at dksX6_init_3 9 rfl rfl)
theorem dX6_init_83 : decode cX6_init 83 = .ok (.aload_n 0, 1) := dk_42 (dk_at dksX6_init_3 12 rfl rfl)
theorem dX6_init_84 : decode cX6_init 84 = .ok (.iconst (-1), 1) := dk_2 (dk_at dksX6_init_3 13 rfl rfl)
theorem dX6_init_85 : decode cX6_init 85 = .ok (.putfield 37, 3) := dk_181 0 37 (dk_at dksX6_init_3 14 rfl rfl)
theorem dX6_init_88 : decode cX6_init 88 = .ok (.aload_n 0, 1) := dk_42 (dk_at dksX6_init_3 17 rfl rfl)
theorem dX6_init_89 : decode cX6_init 89 = .ok (.iconst (-1), 1) := dk_2 (dk_at dksX6_init_3 18 rfl rfl)
theorem dX6_init_90 : decode cX6_init 90 = .ok (.putfield 41, 3) := dk_181 0 41 (dk_at dksX6_init_3 19 rfl rfl)
theorem dX6_init_93 : decode cX6_init 93 = .ok (.aload_n 0, 1) := dk_42 (dk_at dksX6_init_3 22 rfl rfl)
theorem dX6_init_94 : decode cX6_init 94 = .ok (.iconst 3, 1) := dk_6 (dk_at dksX6_init_3 23 rfl rfl)
theorem dX6_init_95 : decode cX6_init 95 = .ok (.newarray .int, 2) := dk_188_10 (dk_at dksX6_init_4 0 rfl rfl)
theorem dX6_init_97 : decode cX6_init 97 = .ok (.putfield 44, 3) := dk_181 0 44 (dk_at dksX6_init_4 2 rfl rfl)
theorem dX6_init_100 : decode cX6_init 100 = .ok (.aload_n 0, 1) := dk_42 (dk_at dksX6_init_4 5 rfl rfl)
theorem dX6_init_101 : decode cX6_init 101 = .ok (.bipush 8, 2) := dk_16 8 (dk_at dksX6_init_4 6 rfl rfl)
theorem dX6_init_103 : decode cX6_init 103 = .ok (.newarray .int, 2) := dk_188_10 (dk_at dksX6_init_4 8 rfl rfl)
theorem dX6_init_105 : decode cX6_init 105 = .ok (.putfield 47, 3) := dk_181 0 47 (dk_at dksX6_init_4 10 rfl rfl)
theorem dX6_init_108 : decode cX6_init 108 = .ok (.aload_n 0, 1) := dk_42 (dk_at dksX6_init_4 13 rfl rfl)
theorem dX6_init_109 : decode cX6_init 109 = .ok (.bipush 64, 2) := dk_16 64 (dk_at dksX6_init_4 14 rfl rfl)
theorem dX6_init_111 : decode cX6_init 111 = .ok (.newarray .int, 2) := dk_188_10 (dk_at dksX6_init_4 16 rfl rfl)
theorem dX6_init_113 : decode cX6_init 113 = .ok (.putfield 50, 3) := dk_181 0 50 (dk_at dksX6_init_4 18 rfl rfl)
theorem dX6_init_116 : decode cX6_init 116 = .ok (.aload_n 0, 1) := dk_42 (dk_at dksX6_init_4 21 rfl rfl)
theorem dX6_init_117 : decode cX6_init 117 = .ok (.bipush 64, 2) := dk_16 64 (dk_at dksX6_init_4 22 rfl rfl)
theorem dX6_init_119 : decode cX6_init 119 = .ok (.newarray .int, 2) := dk_188_10 (dk_at dksX6_init_5 0 rfl rfl)
theorem dX6_init_121 : decode cX6_init 121 = .ok (.putfield 53, 3) := dk_181 0 53 (dk_at dksX6_init_5 2 rfl rfl)
theorem dX6_init_124 : decode cX6_init 124 = .ok (.aload_n 0, 1) := dk_42 (dk_at dksX6_init_5 5 rfl rfl)
theorem dX6_init_125 : decode cX6_init 125 = .ok (.bipush 13, 2) := dk_16 13 (dk_at dksX6_init_5 6 rfl rfl)
theorem dX6_init_127 : decode cX6_init 127 = .ok (.newarray .long, 2) := dk_188_11 (dk_at dksX6_init_5 8 rfl rfl)
theorem dX6_init_129 : decode cX6_init 129 = .ok (.putfield 56, 3) := dk_181 0 56 (dk_at dksX6_init_5 10 rfl rfl)
theorem dX6_init_132 : decode cX6_init 132 = .ok (.aload_n 0, 1) := dk_42 (dk_at dksX6_init_5 13 rfl rfl)
theorem dX6_init_133 : decode cX6_init 133 = .ok (.bipush 80, 2) := dk_16 80 (dk_at dksX6_init_5 14 rfl rfl)
theorem dX6_init_135 : decode cX6_init 135 = .ok (.newarray .int, 2) := dk_188_10 (dk_at dksX6_init_5 16 rfl rfl)
theorem dX6_init_137 : decode cX6_init 137 = .ok (.putfield 59, 3) := dk_181 0 59 (dk_at dksX6_init_5 18 rfl rfl)
theorem dX6_init_140 : decode cX6_init 140 = .ok (.aload_n 0, 1) := dk_42 (dk_at dksX6_init_5 21 rfl rfl)
theorem dX6_init_141 : decode cX6_init 141 = .ok (.iconst 5, 1) := dk_8 (dk_at dksX6_init_5 22 rfl rfl)
theorem dX6_init_142 : decode cX6_init 142 = .ok (.newarray .int, 2) := dk_188_10 (dk_at dksX6_init_6 0 rfl rfl)
theorem dX6_init_144 : decode cX6_init 144 = .ok (.putfield 62, 3) := dk_181 0 62 (dk_at dksX6_init_6 2 rfl rfl)
theorem dX6_init_147 : decode cX6_init 147 = .ok (.aload_n 0, 1) := dk_42 (dk_at dksX6_init_6 5 rfl rfl)
theorem dX6_init_148 : decode cX6_init 148 = .ok (.iconst 5, 1) := dk_8 (dk_at dksX6_init_6 6 rfl rfl)
theorem dX6_init_149 : decode cX6_init 149 = .ok (.newarray .int, 2) := dk_188_10 (dk_at dksX6_init_6 7 rfl rfl)
theorem dX6_init_151 : decode cX6_init 151 = .ok (.putfield 65, 3) := dk_181 0 65 (dk_at dksX6_init_6 9 rfl rfl)
theorem dX6_init_154 : decode cX6_init 154 = .ok (.aload_n 0, 1) := dk_42 (dk_at dksX6_init_6 12 rfl rfl)
theorem dX6_init_155 : decode cX6_init 155 = .ok (.iconst 0, 1) := dk_3 (dk_at dksX6_init_6 13 rfl rfl)
theorem dX6_init_156 : decode cX6_init 156 = .ok (.invokevirtual 68, 3) := dk_182 0 68 (dk_at dksX6_init_6 14 rfl rfl)
theorem dX6_init_159 : decode cX6_init 159 = .ok (.return_, 1) := dk_177 (dk_at dksX6_init_6 17 rfl rfl)
abbrev cX6_plain : ByteArray := prog_15_method_2_code
def yX6_plain : MethodName := ⟨RX6, "plain", "(I)V"⟩
def dkwX6_plain_2 : List UInt8 := [96, 16, 12, 79, 42, 180, 0, 7, 27, 16, 8, 96, 2, 79, 177]
abbrev dktX6_plain_2 : List UInt8 := dkwX6_plain_2 ++ []
def dkwX6_plain_1 : List UInt8 := [42, 180, 0, 7, 27, 5, 96, 7, 79, 42, 180, 0, 7, 27, 6, 96, 4, 79, 42, 180, 0, 7, 27, 7]
abbrev dktX6_plain_1 : List UInt8 := dkwX6_plain_1 ++ dktX6_plain_2
def dkwX6_plain_0 : List UInt8 := [3, 61, 28, 17, 1, 160, 162, 0, 18, 42, 180, 0, 7, 27, 28, 96, 3, 79, 132, 2, 1, 167, 255, 237]
abbrev dktX6_plain_0 : List UInt8 := dkwX6_plain_0 ++ dktX6_plain_1
theorem dksX6_plain_0 : cX6_plain.data.toList.drop 0 = dktX6_plain_0 := by decide +kernel
theorem dksX6_plain_1 : cX6_plain.data.toList.drop 24 = dktX6_plain_1 := dk_seg dksX6_plain_0 24 rfl rfl
theorem dksX6_plain_2 : cX6_plain.data.toList.drop 48 = dktX6_plain_2 := dk_seg dksX6_plain_1 24 rfl rfl
theorem dX6_plain_0 : decode cX6_plain 0 = .ok (.iconst 0, 1) := dk_3 (dk_at dksX6_plain_0 0 rfl rfl)
theorem dX6_plain_1 : decode cX6_plain 1 = .ok (.istore_n 2, 1) := dk_61 (dk_at dksX6_plain_0 1 rfl rfl)
theorem dX6_plain_2 : decode cX6_plain 2 = .ok (.iload_n 2, 1) := dk_28 (dk_at dksX6_plain_0 2 rfl rfl)
theorem dX6_plain_3 : decode cX6_plain 3 = .ok (.sipush 416, 3) := dk_17 1 160 (dk_at dksX6_plain_0 3 rfl rfl)
theorem dX6_plain_6 : decode cX6_plain 6 = .ok (.if_icmp .ge 18, 3) := dk_162 0 18 (dk_at dksX6_plain_0 6 rfl rfl)
theorem dX6_plain_9 : decode cX6_plain 9 = .ok (.aload_n 0, 1) := dk_42 (dk_at dksX6_plain_0 9 rfl rfl)
theorem dX6_plain_10 : decode cX6_plain 10 = .ok (.getfield 7, 3) := dk_180 0 7 (dk_at dksX6_plain_0 10 rfl rfl)
theorem dX6_plain_13 : decode cX6_plain 13 = .ok (.iload_n 1, 1) := dk_27 (dk_at dksX6_plain_0 13 rfl rfl)
theorem dX6_plain_14 : decode cX6_plain 14 = .ok (.iload_n 2, 1) := dk_28 (dk_at dksX6_plain_0 14 rfl rfl)
theorem dX6_plain_15 : decode cX6_plain 15 = .ok (.iadd, 1) := dk_96 (dk_at dksX6_plain_0 15 rfl rfl)
theorem dX6_plain_16 : decode cX6_plain 16 = .ok (.iconst 0, 1) := dk_3 (dk_at dksX6_plain_0 16 rfl rfl)
theorem dX6_plain_17 : decode cX6_plain 17 = .ok (.iastore, 1) := dk_79 (dk_at dksX6_plain_0 17 rfl rfl)
theorem dX6_plain_18 : decode cX6_plain 18 = .ok (.iinc 2 1, 3) := dk_132 2 1 (dk_at dksX6_plain_0 18 rfl rfl)
theorem dX6_plain_21 : decode cX6_plain 21 = .ok (.goto (-19), 3) := dk_167 255 237 (dk_at dksX6_plain_0 21 rfl rfl)
theorem dX6_plain_24 : decode cX6_plain 24 = .ok (.aload_n 0, 1) := dk_42 (dk_at dksX6_plain_1 0 rfl rfl)
theorem dX6_plain_25 : decode cX6_plain 25 = .ok (.getfield 7, 3) := dk_180 0 7 (dk_at dksX6_plain_1 1 rfl rfl)
theorem dX6_plain_28 : decode cX6_plain 28 = .ok (.iload_n 1, 1) := dk_27 (dk_at dksX6_plain_1 4 rfl rfl)
theorem dX6_plain_29 : decode cX6_plain 29 = .ok (.iconst 2, 1) := dk_5 (dk_at dksX6_plain_1 5 rfl rfl)
theorem dX6_plain_30 : decode cX6_plain 30 = .ok (.iadd, 1) := dk_96 (dk_at dksX6_plain_1 6 rfl rfl)
theorem dX6_plain_31 : decode cX6_plain 31 = .ok (.iconst 4, 1) := dk_7 (dk_at dksX6_plain_1 7 rfl rfl)
theorem dX6_plain_32 : decode cX6_plain 32 = .ok (.iastore, 1) := dk_79 (dk_at dksX6_plain_1 8 rfl rfl)
theorem dX6_plain_33 : decode cX6_plain 33 = .ok (.aload_n 0, 1) := dk_42 (dk_at dksX6_plain_1 9 rfl rfl)
theorem dX6_plain_34 : decode cX6_plain 34 = .ok (.getfield 7, 3) := dk_180 0 7 (dk_at dksX6_plain_1 10 rfl rfl)
theorem dX6_plain_37 : decode cX6_plain 37 = .ok (.iload_n 1, 1) := dk_27 (dk_at dksX6_plain_1 13 rfl rfl)
theorem dX6_plain_38 : decode cX6_plain 38 = .ok (.iconst 3, 1) := dk_6 (dk_at dksX6_plain_1 14 rfl rfl)
theorem dX6_plain_39 : decode cX6_plain 39 = .ok (.iadd, 1) := dk_96 (dk_at dksX6_plain_1 15 rfl rfl)
theorem dX6_plain_40 : decode cX6_plain 40 = .ok (.iconst 1, 1) := dk_4 (dk_at dksX6_plain_1 16 rfl rfl)
theorem dX6_plain_41 : decode cX6_plain 41 = .ok (.iastore, 1) := dk_79 (dk_at dksX6_plain_1 17 rfl rfl)
theorem dX6_plain_42 : decode cX6_plain 42 = .ok (.aload_n 0, 1) := dk_42 (dk_at dksX6_plain_1 18 rfl rfl)
theorem dX6_plain_43 : decode cX6_plain 43 = .ok (.getfield 7, 3) := dk_180 0 7 (dk_at dksX6_plain_1 19 rfl rfl)
theorem dX6_plain_46 : decode cX6_plain 46 = .ok (.iload_n 1, 1) := dk_27 (dk_at dksX6_plain_1 22 rfl rfl)
theorem dX6_plain_47 : decode cX6_plain 47 = .ok (.iconst 4, 1) := dk_7 (dk_at dksX6_plain_1 23 rfl rfl)
theorem dX6_plain_48 : decode cX6_plain 48 = .ok (.iadd, 1) := dk_96 (dk_at dksX6_plain_2 0 rfl rfl)
theorem dX6_plain_49 : decode cX6_plain 49 = .ok (.bipush 12, 2) := dk_16 12 (dk_at dksX6_plain_2 1 rfl rfl)
theorem dX6_plain_51 : decode cX6_plain 51 = .ok (.iastore, 1) := dk_79 (dk_at dksX6_plain_2 3 rfl rfl)
theorem dX6_plain_52 : decode cX6_plain 52 = .ok (.aload_n 0, 1) := dk_42 (dk_at dksX6_plain_2 4 rfl rfl)
theorem dX6_plain_53 : decode cX6_plain 53 = .ok (.getfield 7, 3) := dk_180 0 7 (dk_at dksX6_plain_2 5 rfl rfl)
theorem dX6_plain_56 : decode cX6_plain 56 = .ok (.iload_n 1, 1) := dk_27 (dk_at dksX6_plain_2 8 rfl rfl)
theorem dX6_plain_57 : decode cX6_plain 57 = .ok (.bipush 8, 2) := dk_16 8 (dk_at dksX6_plain_2 9 rfl rfl)
theorem dX6_plain_59 : decode cX6_plain 59 = .ok (.iadd, 1) := dk_96 (dk_at dksX6_plain_2 11 rfl rfl)
theorem dX6_plain_60 : decode cX6_plain 60 = .ok (.iconst (-1), 1) := dk_2 (dk_at dksX6_plain_2 12 rfl rfl)
theorem dX6_plain_61 : decode cX6_plain 61 = .ok (.iastore, 1) := dk_79 (dk_at dksX6_plain_2 13 rfl rfl)
theorem dX6_plain_62 : decode cX6_plain 62 = .ok (.return_, 1) := dk_177 (dk_at dksX6_plain_2 14 rfl rfl)
abbrev cX6_status : ByteArray := prog_15_method_3_code
def yX6_status : MethodName := ⟨RX6, "status", "()I"⟩
theorem dX6_status_0 : decode cX6_status 0 = .ok (.aload_n 0, 1) := by decide +kernel
theorem dX6_status_1 : decode cX6_status 1 = .ok (.getfield 72, 3) := by decide +kernel
theorem dX6_status_4 : decode cX6_status 4 = .ok (.ireturn, 1) := by decide +kernel
abbrev cX6_top : ByteArray := prog_15_method_4_code
def yX6_top : MethodName := ⟨RX6, "top", "()J"⟩
theorem dX6_top_0 : decode cX6_top 0 = .ok (.aload_n 0, 1) := by decide +kernel
theorem dX6_top_1 : decode cX6_top 1 = .ok (.getfield 75, 3) := by decide +kernel
theorem dX6_top_4 : decode cX6_top 4 = .ok (.lreturn, 1) := by decide +kernel
abbrev cX6_bottom : ByteArray := prog_15_method_5_code
def yX6_bottom : MethodName := ⟨RX6, "bottom", "()J"⟩
theorem dX6_bottom_0 : decode cX6_bottom 0 = .ok (.aload_n 0, 1) := by decide +kernel
theorem dX6_bottom_1 : decode cX6_bottom 1 = .ok (.getfield 17, 3) := by decide +kernel
theorem dX6_bottom_4 : decode cX6_bottom 4 = .ok (.lreturn, 1) := by decide +kernel
abbrev cX6_tray : ByteArray := prog_15_method_13_code
def yX6_tray : MethodName := ⟨RX6, "tray", "(III)Z"⟩
def dkwX6_tray_3 : List UInt8 := [167, 255, 234, 42, 3, 182, 0, 85, 172]
abbrev dktX6_tray_3 : List UInt8 := dkwX6_tray_3 ++ []
def dkwX6_tray_2 : List UInt8 := [54, 4, 21, 4, 29, 162, 0, 22, 42, 180, 0, 27, 16, 60, 27, 104, 21, 4, 96, 9, 80, 132, 4, 1]
abbrev dktX6_tray_2 : List UInt8 := dkwX6_tray_2 ++ dktX6_tray_3
def dkwX6_tray_1 : List UInt8 := [164, 0, 9, 42, 4, 182, 0, 85, 172, 42, 180, 0, 21, 27, 28, 79, 42, 180, 0, 24, 27, 29, 79, 3]
abbrev dktX6_tray_1 : List UInt8 := dkwX6_tray_1 ++ dktX6_tray_2
def dkwX6_tray_0 : List UInt8 := [27, 184, 0, 89, 153, 0, 22, 28, 155, 0, 18, 28, 6, 163, 0, 13, 29, 155, 0, 9, 29, 16, 60]
abbrev dktX6_tray_0 : List UInt8 := dkwX6_tray_0 ++ dktX6_tray_1
theorem dksX6_tray_0 : cX6_tray.data.toList.drop 0 = dktX6_tray_0 := by decide +kernel
theorem dksX6_tray_1 : cX6_tray.data.toList.drop 23 = dktX6_tray_1 := dk_seg dksX6_tray_0 23 rfl rfl
theorem dksX6_tray_2 : cX6_tray.data.toList.drop 47 = dktX6_tray_2 := dk_seg dksX6_tray_1 24 rfl rfl
theorem dksX6_tray_3 : cX6_tray.data.toList.drop 71 = dktX6_tray_3 := dk_seg dksX6_tray_2 24 rfl rfl
theorem dX6_tray_0 : decode cX6_tray 0 = .ok (.iload_n 1, 1) := dk_27 (dk_at dksX6_tray_0 0 rfl rfl)
theorem dX6_tray_1 : decode cX6_tray 1 = .ok (.invokestatic 89, 3) := dk_184 0 89 (dk_at dksX6_tray_0 1 rfl rfl)
theorem dX6_tray_4 : decode cX6_tray 4 = .ok (.ifCond .eq 22, 3) := dk_153 0 22 (dk_at dksX6_tray_0 4 rfl rfl)
theorem dX6_tray_7 : decode cX6_tray 7 = .ok (.iload_n 2, 1) := dk_28 (dk_at dksX6_tray_0 7 rfl rfl)
theorem dX6_tray_8 : decode cX6_tray 8 = .ok (.ifCond .lt 18, 3) := dk_155 0 18 (dk_at dksX6_tray_0 8 rfl rfl)
theorem dX6_tray_11 : decode cX6_tray 11 = .ok (.iload_n 2, 1) := dk_28 (dk_at dksX6_tray_0 11 rfl rfl)
theorem dX6_tray_12 : decode cX6_tray 12 = .ok (.iconst 3, 1) := dk_6 (dk_at dksX6_tray_0 12 rfl rfl)
theorem dX6_tray_13 : decode cX6_tray 13 = .ok (.if_icmp .gt 13, 3) := dk_163 0 13 (dk_at dksX6_tray_0 13 rfl rfl)
theorem dX6_tray_16 : decode cX6_tray 16 = .ok (.iload_n 3, 1) := dk_29 (dk_at dksX6_tray_0 16 rfl rfl)
theorem dX6_tray_17 : decode cX6_tray 17 = .ok (.ifCond .lt 9, 3) := dk_155 0 9 (dk_at dksX6_tray_0 17 rfl rfl)
theorem dX6_tray_20 : decode cX6_tray 20 = .ok (.iload_n 3, 1) := dk_29 (dk_at dksX6_tray_0 20 rfl rfl)
theorem dX6_tray_21 : decode cX6_tray 21 = .ok (.bipush 60, 2) := dk_16 60 (dk_at dksX6_tray_0 21 rfl rfl)
theorem dX6_tray_23 : decode cX6_tray 23 = .ok (.if_icmp .le 9, 3) := dk_164 0 9 (dk_at dksX6_tray_1 0 rfl rfl)
theorem dX6_tray_26 : decode cX6_tray 26 = .ok (.aload_n 0, 1) := dk_42 (dk_at dksX6_tray_1 3 rfl rfl)
theorem dX6_tray_27 : decode cX6_tray 27 = .ok (.iconst 1, 1) := dk_4 (dk_at dksX6_tray_1 4 rfl rfl)
theorem dX6_tray_28 : decode cX6_tray 28 = .ok (.invokevirtual 85, 3) := dk_182 0 85 (dk_at dksX6_tray_1 5 rfl rfl)
theorem dX6_tray_31 : decode cX6_tray 31 = .ok (.ireturn, 1) := dk_172 (dk_at dksX6_tray_1 8 rfl rfl)
theorem dX6_tray_32 : decode cX6_tray 32 = .ok (.aload_n 0, 1) := dk_42 (dk_at dksX6_tray_1 9 rfl rfl)
theorem dX6_tray_33 : decode cX6_tray 33 = .ok (.getfield 21, 3) := dk_180 0 21 (dk_at dksX6_tray_1 10 rfl rfl)
theorem dX6_tray_36 : decode cX6_tray 36 = .ok (.iload_n 1, 1) := dk_27 (dk_at dksX6_tray_1 13 rfl rfl)
theorem dX6_tray_37 : decode cX6_tray 37 = .ok (.iload_n 2, 1) := dk_28 (dk_at dksX6_tray_1 14 rfl rfl)
theorem dX6_tray_38 : decode cX6_tray 38 = .ok (.iastore, 1) := dk_79 (dk_at dksX6_tray_1 15 rfl rfl)
theorem dX6_tray_39 : decode cX6_tray 39 = .ok (.aload_n 0, 1) := dk_42 (dk_at dksX6_tray_1 16 rfl rfl)
theorem dX6_tray_40 : decode cX6_tray 40 = .ok (.getfield 24, 3) := dk_180 0 24 (dk_at dksX6_tray_1 17 rfl rfl)
theorem dX6_tray_43 : decode cX6_tray 43 = .ok (.iload_n 1, 1) := dk_27 (dk_at dksX6_tray_1 20 rfl rfl)
theorem dX6_tray_44 : decode cX6_tray 44 = .ok (.iload_n 3, 1) := dk_29 (dk_at dksX6_tray_1 21 rfl rfl)
theorem dX6_tray_45 : decode cX6_tray 45 = .ok (.iastore, 1) := dk_79 (dk_at dksX6_tray_1 22 rfl rfl)
theorem dX6_tray_46 : decode cX6_tray 46 = .ok (.iconst 0, 1) := dk_3 (dk_at dksX6_tray_1 23 rfl rfl)
theorem dX6_tray_47 : decode cX6_tray 47 = .ok (.istore 4, 2) := dk_54 4 (dk_at dksX6_tray_2 0 rfl rfl)
theorem dX6_tray_49 : decode cX6_tray 49 = .ok (.iload 4, 2) := dk_21 4 (dk_at dksX6_tray_2 2 rfl rfl)
theorem dX6_tray_51 : decode cX6_tray 51 = .ok (.iload_n 3, 1) := dk_29 (dk_at dksX6_tray_2 4 rfl rfl)
theorem dX6_tray_52 : decode cX6_tray 52 = .ok (.if_icmp .ge 22, 3) := dk_162 0 22 (dk_at dksX6_tray_2 5 rfl rfl)
theorem dX6_tray_55 : decode cX6_tray 55 = .ok (.aload_n 0, 1) := dk_42 (dk_at dksX6_tray_2 8 rfl rfl)
theorem dX6_tray_56 : decode cX6_tray 56 = .ok (.getfield 27, 3) := dk_180 0 27 (dk_at dksX6_tray_2 9 rfl rfl)
theorem dX6_tray_59 : decode cX6_tray 59 = .ok (.bipush 60, 2) := dk_16 60 (dk_at dksX6_tray_2 12 rfl rfl)
theorem dX6_tray_61 : decode cX6_tray 61 = .ok (.iload_n 1, 1) := dk_27 (dk_at dksX6_tray_2 14 rfl rfl)
theorem dX6_tray_62 : decode cX6_tray 62 = .ok (.imul, 1) := dk_104 (dk_at dksX6_tray_2 15 rfl rfl)
theorem dX6_tray_63 : decode cX6_tray 63 = .ok (.iload 4, 2) := dk_21 4 (dk_at dksX6_tray_2 16 rfl rfl)
theorem dX6_tray_65 : decode cX6_tray 65 = .ok (.iadd, 1) := dk_96 (dk_at dksX6_tray_2 18 rfl rfl)
theorem dX6_tray_66 : decode cX6_tray 66 = .ok (.lconst 0, 1) := dk_9 (dk_at dksX6_tray_2 19 rfl rfl)
theorem dX6_tray_67 : decode cX6_tray 67 = .ok (.lastore, 1) := dk_80 (dk_at dksX6_tray_2 20 rfl rfl)
theorem dX6_tray_68 : decode cX6_tray 68 = .ok (.iinc 4 1, 3) := dk_132 4 1 (dk_at dksX6_tray_2 21 rfl rfl)
theorem dX6_tray_71 : decode cX6_tray 71 = .ok (.goto (-22), 3) := dk_167 255 234 (dk_at dksX6_tray_3 0 rfl rfl)
theorem dX6_tray_74 : decode cX6_tray 74 = .ok (.aload_n 0, 1) := dk_42 (dk_at dksX6_tray_3 3 rfl rfl)
theorem dX6_tray_75 : decode cX6_tray 75 = .ok (.iconst 0, 1) := dk_3 (dk_at dksX6_tray_3 4 rfl rfl)
theorem dX6_tray_76 : decode cX6_tray 76 = .ok (.invokevirtual 85, 3) := dk_182 0 85 (dk_at dksX6_tray_3 5 rfl rfl)
theorem dX6_tray_79 : decode cX6_tray 79 = .ok (.ireturn, 1) := dk_172 (dk_at dksX6_tray_3 8 rfl rfl)
abbrev cX6_isTray : ByteArray := prog_15_method_11_code
def yX6_isTray : MethodName := ⟨RX6, "isTray", "(I)Z"⟩
def dkwX6_isTray_0 : List UInt8 := [26, 155, 0, 12, 26, 7, 162, 0, 7, 4, 167, 0, 4, 3, 172]
abbrev dktX6_isTray_0 : List UInt8 := dkwX6_isTray_0 ++ []
theorem dksX6_isTray_0 : cX6_isTray.data.toList.drop 0 = dktX6_isTray_0 := by decide +kernel
theorem dX6_isTray_0 : decode cX6_isTray 0 = .ok (.iload_n 0, 1) := dk_26 (dk_at dksX6_isTray_0 0 rfl rfl)
theorem dX6_isTray_1 : decode cX6_isTray 1 = .ok (.ifCond .lt 12, 3) := dk_155 0 12 (dk_at dksX6_isTray_0 1 rfl rfl)
theorem dX6_isTray_4 : decode cX6_isTray 4 = .ok (.iload_n 0, 1) := dk_26 (dk_at dksX6_isTray_0 4 rfl rfl)
theorem dX6_isTray_5 : decode cX6_isTray 5 = .ok (.iconst 4, 1) := dk_7 (dk_at dksX6_isTray_0 5 rfl rfl)
theorem dX6_isTray_6 : decode cX6_isTray 6 = .ok (.if_icmp .ge 7, 3) := dk_162 0 7 (dk_at dksX6_isTray_0 6 rfl rfl)
theorem dX6_isTray_9 : decode cX6_isTray 9 = .ok (.iconst 1, 1) := dk_4 (dk_at dksX6_isTray_0 9 rfl rfl)
theorem dX6_isTray_10 : decode cX6_isTray 10 = .ok (.goto 4, 3) := dk_167 0 4 (dk_at dksX6_isTray_0 10 rfl rfl)
theorem dX6_isTray_13 : decode cX6_isTray 13 = .ok (.iconst 0, 1) := dk_3 (dk_at dksX6_isTray_0 13 rfl rfl)
theorem dX6_isTray_14 : decode cX6_isTray 14 = .ok (.ireturn, 1) := dk_172 (dk_at dksX6_isTray_0 14 rfl rfl)
abbrev cX6_is : ByteArray := prog_15_method_6_code
def yX6_is : MethodName := ⟨RX6, "is", "(I)Z"⟩
def dkwX6_is_0 : List UInt8 := [42, 27, 181, 0, 72, 27, 154, 0, 7, 4, 167, 0, 4, 3, 172]
abbrev dktX6_is_0 : List UInt8 := dkwX6_is_0 ++ []
theorem dksX6_is_0 : cX6_is.data.toList.drop 0 = dktX6_is_0 := by decide +kernel
theorem dX6_is_0 : decode cX6_is 0 = .ok (.aload_n 0, 1) := dk_42 (dk_at dksX6_is_0 0 rfl rfl)
theorem dX6_is_1 : decode cX6_is 1 = .ok (.iload_n 1, 1) := dk_27 (dk_at dksX6_is_0 1 rfl rfl)
theorem dX6_is_2 : decode cX6_is 2 = .ok (.putfield 72, 3) := dk_181 0 72 (dk_at dksX6_is_0 2 rfl rfl)
theorem dX6_is_5 : decode cX6_is 5 = .ok (.iload_n 1, 1) := dk_27 (dk_at dksX6_is_0 5 rfl rfl)
theorem dX6_is_6 : decode cX6_is 6 = .ok (.ifCond .ne 7, 3) := dk_154 0 7 (dk_at dksX6_is_0 6 rfl rfl)
theorem dX6_is_9 : decode cX6_is 9 = .ok (.iconst 1, 1) := dk_4 (dk_at dksX6_is_0 9 rfl rfl)
theorem dX6_is_10 : decode cX6_is 10 = .ok (.goto 4, 3) := dk_167 0 4 (dk_at dksX6_is_0 10 rfl rfl)
theorem dX6_is_13 : decode cX6_is 13 = .ok (.iconst 0, 1) := dk_3 (dk_at dksX6_is_0 13 rfl rfl)
theorem dX6_is_14 : decode cX6_is 14 = .ok (.ireturn, 1) := dk_172 (dk_at dksX6_is_0 14 rfl rfl)
abbrev cX6_write : ByteArray := prog_15_method_15_code
def yX6_write : MethodName := ⟨RX6, "write", "(IIJ)Z"⟩
def dkwX6_write_1 : List UInt8 := [42, 180, 0, 21, 27, 46, 184, 0, 96, 80, 42, 21, 5, 182, 0, 85, 172]
abbrev dktX6_write_1 : List UInt8 := dkwX6_write_1 ++ []
def dkwX6_write_0 : List UInt8 := [42, 27, 28, 182, 0, 92, 54, 5, 21, 5, 154, 0, 24, 42, 180, 0, 27, 16, 60, 27, 104, 28, 96, 33]
abbrev dktX6_write_0 : List UInt8 := dkwX6_write_0 ++ dktX6_write_1
theorem dksX6_write_0 : cX6_write.data.toList.drop 0 = dktX6_write_0 := by decide +kernel
theorem dksX6_write_1 : cX6_write.data.toList.drop 24 = dktX6_write_1 := dk_seg dksX6_write_0 24 rfl rfl
theorem dX6_write_0 : decode cX6_write 0 = .ok (.aload_n 0, 1) := dk_42 (dk_at dksX6_write_0 0 rfl rfl)
theorem dX6_write_1 : decode cX6_write 1 = .ok (.iload_n 1, 1) := dk_27 (dk_at dksX6_write_0 1 rfl rfl)
theorem dX6_write_2 : decode cX6_write 2 = .ok (.iload_n 2, 1) := dk_28 (dk_at dksX6_write_0 2 rfl rfl)
theorem dX6_write_3 : decode cX6_write 3 = .ok (.invokevirtual 92, 3) := dk_182 0 92 (dk_at dksX6_write_0 3 rfl rfl)
theorem dX6_write_6 : decode cX6_write 6 = .ok (.istore 5, 2) := dk_54 5 (dk_at dksX6_write_0 6 rfl rfl)
theorem dX6_write_8 : decode cX6_write 8 = .ok (.iload 5, 2) := dk_21 5 (dk_at dksX6_write_0 8 rfl rfl)
theorem dX6_write_10 : decode cX6_write 10 = .ok (.ifCond .ne 24, 3) := dk_154 0 24 (dk_at dksX6_write_0 10 rfl rfl)
theorem dX6_write_13 : decode cX6_write 13 = .ok (.aload_n 0, 1) := dk_42 (dk_at dksX6_write_0 13 rfl rfl)
theorem dX6_write_14 : decode cX6_write 14 = .ok (.getfield 27, 3) := dk_180 0 27 (dk_at dksX6_write_0 14 rfl rfl)
theorem dX6_write_17 : decode cX6_write 17 = .ok (.bipush 60, 2) := dk_16 60 (dk_at dksX6_write_0 17 rfl rfl)
theorem dX6_write_19 : decode cX6_write 19 = .ok (.iload_n 1, 1) := dk_27 (dk_at dksX6_write_0 19 rfl rfl)
theorem dX6_write_20 : decode cX6_write 20 = .ok (.imul, 1) := dk_104 (dk_at dksX6_write_0 20 rfl rfl)
theorem dX6_write_21 : decode cX6_write 21 = .ok (.iload_n 2, 1) := dk_28 (dk_at dksX6_write_0 21 rfl rfl)
theorem dX6_write_22 : decode cX6_write 22 = .ok (.iadd, 1) := dk_96 (dk_at dksX6_write_0 22 rfl rfl)
theorem dX6_write_23 : decode cX6_write 23 = .ok (.lload_n 3, 1) := dk_33 (dk_at dksX6_write_0 23 rfl rfl)
theorem dX6_write_24 : decode cX6_write 24 = .ok (.aload_n 0, 1) := dk_42 (dk_at dksX6_write_1 0 rfl rfl)
theorem dX6_write_25 : decode cX6_write 25 = .ok (.getfield 21, 3) := dk_180 0 21 (dk_at dksX6_write_1 1 rfl rfl)
theorem dX6_write_28 : decode cX6_write 28 = .ok (.iload_n 1, 1) := dk_27 (dk_at dksX6_write_1 4 rfl rfl)
theorem dX6_write_29 : decode cX6_write 29 = .ok (.iaload, 1) := dk_46 (dk_at dksX6_write_1 5 rfl rfl)
theorem dX6_write_30 : decode cX6_write 30 = .ok (.invokestatic 96, 3) := dk_184 0 96 (dk_at dksX6_write_1 6 rfl rfl)
theorem dX6_write_33 : decode cX6_write 33 = .ok (.lastore, 1) := dk_80 (dk_at dksX6_write_1 9 rfl rfl)
theorem dX6_write_34 : decode cX6_write 34 = .ok (.aload_n 0, 1) := dk_42 (dk_at dksX6_write_1 10 rfl rfl)
theorem dX6_write_35 : decode cX6_write 35 = .ok (.iload 5, 2) := dk_21 5 (dk_at dksX6_write_1 11 rfl rfl)
theorem dX6_write_37 : decode cX6_write 37 = .ok (.invokevirtual 85, 3) := dk_182 0 85 (dk_at dksX6_write_1 13 rfl rfl)
theorem dX6_write_40 : decode cX6_write 40 = .ok (.ireturn, 1) := dk_172 (dk_at dksX6_write_1 16 rfl rfl)
abbrev cX6_wrongPlace : ByteArray := prog_15_method_14_code
def yX6_wrongPlace : MethodName := ⟨RX6, "wrongPlace", "(II)I"⟩
def dkwX6_wrongPlace_1 : List UInt8 := [167, 0, 22, 28, 155, 0, 13, 28, 42, 180, 0, 24, 27, 46, 161, 0, 7, 6, 167, 0, 4, 3, 172]
abbrev dktX6_wrongPlace_1 : List UInt8 := dkwX6_wrongPlace_1 ++ []
def dkwX6_wrongPlace_0 : List UInt8 := [27, 184, 0, 89, 154, 0, 7, 4, 167, 0, 36, 42, 180, 0, 24, 27, 46, 2, 160, 0, 7, 5]
abbrev dktX6_wrongPlace_0 : List UInt8 := dkwX6_wrongPlace_0 ++ dktX6_wrongPlace_1
theorem dksX6_wrongPlace_0 : cX6_wrongPlace.data.toList.drop 0 = dktX6_wrongPlace_0 := by decide +kernel
theorem dksX6_wrongPlace_1 : cX6_wrongPlace.data.toList.drop 22 = dktX6_wrongPlace_1 := dk_seg dksX6_wrongPlace_0 22 rfl rfl
theorem dX6_wrongPlace_0 : decode cX6_wrongPlace 0 = .ok (.iload_n 1, 1) := dk_27 (dk_at dksX6_wrongPlace_0 0 rfl rfl)
theorem dX6_wrongPlace_1 : decode cX6_wrongPlace 1 = .ok (.invokestatic 89, 3) := dk_184 0 89 (dk_at dksX6_wrongPlace_0 1 rfl rfl)
theorem dX6_wrongPlace_4 : decode cX6_wrongPlace 4 = .ok (.ifCond .ne 7, 3) := dk_154 0 7 (dk_at dksX6_wrongPlace_0 4 rfl rfl)
theorem dX6_wrongPlace_7 : decode cX6_wrongPlace 7 = .ok (.iconst 1, 1) := dk_4 (dk_at dksX6_wrongPlace_0 7 rfl rfl)
theorem dX6_wrongPlace_8 : decode cX6_wrongPlace 8 = .ok (.goto 36, 3) := dk_167 0 36 (dk_at dksX6_wrongPlace_0 8 rfl rfl)
theorem dX6_wrongPlace_11 : decode cX6_wrongPlace 11 = .ok (.aload_n 0, 1) := dk_42 (dk_at dksX6_wrongPlace_0 11 rfl rfl)
theorem dX6_wrongPlace_12 : decode cX6_wrongPlace 12 = .ok (.getfield 24, 3) := dk_180 0 24 (dk_at dksX6_wrongPlace_0 12 rfl rfl)
theorem dX6_wrongPlace_15 : decode cX6_wrongPlace 15 = .ok (.iload_n 1, 1) := dk_27 (dk_at dksX6_wrongPlace_0 15 rfl rfl)
theorem dX6_wrongPlace_16 : decode cX6_wrongPlace 16 = .ok (.iaload, 1) := dk_46 (dk_at dksX6_wrongPlace_0 16 rfl rfl)
theorem dX6_wrongPlace_17 : decode cX6_wrongPlace 17 = .ok (.iconst (-1), 1) := dk_2 (dk_at dksX6_wrongPlace_0 17 rfl rfl)
theorem dX6_wrongPlace_18 : decode cX6_wrongPlace 18 = .ok (.if_icmp .ne 7, 3) := dk_160 0 7 (dk_at dksX6_wrongPlace_0 18 rfl rfl)
theorem dX6_wrongPlace_21 : decode cX6_wrongPlace 21 = .ok (.iconst 2, 1) := dk_5 (dk_at dksX6_wrongPlace_0 21 rfl rfl)
theorem dX6_wrongPlace_22 : decode cX6_wrongPlace 22 = .ok (.goto 22, 3) := dk_167 0 22 (dk_at dksX6_wrongPlace_1 0 rfl rfl)
theorem dX6_wrongPlace_25 : decode cX6_wrongPlace 25 = .ok (.iload_n 2, 1) := dk_28 (dk_at dksX6_wrongPlace_1 3 rfl rfl)
theorem dX6_wrongPlace_26 : decode cX6_wrongPlace 26 = .ok (.ifCond .lt 13, 3) := dk_155 0 13 (dk_at dksX6_wrongPlace_1 4 rfl rfl)
theorem dX6_wrongPlace_29 : decode cX6_wrongPlace 29 = .ok (.iload_n 2, 1) := dk_28 (dk_at dksX6_wrongPlace_1 7 rfl rfl)
theorem dX6_wrongPlace_30 : decode cX6_wrongPlace 30 = .ok (.aload_n 0, 1) := dk_42 (dk_at dksX6_wrongPlace_1 8 rfl rfl)
theorem dX6_wrongPlace_31 : decode cX6_wrongPlace 31 = .ok (.getfield 24, 3) := dk_180 0 24 (dk_at dksX6_wrongPlace_1 9 rfl rfl)
theorem dX6_wrongPlace_34 : decode cX6_wrongPlace 34 = .ok (.iload_n 1, 1) := dk_27 (dk_at dksX6_wrongPlace_1 12 rfl rfl)
theorem dX6_wrongPlace_35 : decode cX6_wrongPlace 35 = .ok (.iaload, 1) := dk_46 (dk_at dksX6_wrongPlace_1 13 rfl rfl)
theorem dX6_wrongPlace_36 : decode cX6_wrongPlace 36 = .ok (.if_icmp .lt 7, 3) := dk_161 0 7 (dk_at dksX6_wrongPlace_1 14 rfl rfl)
theorem dX6_wrongPlace_39 : decode cX6_wrongPlace 39 = .ok (.iconst 3, 1) := dk_6 (dk_at dksX6_wrongPlace_1 17 rfl rfl)
theorem dX6_wrongPlace_40 : decode cX6_wrongPlace 40 = .ok (.goto 4, 3) := dk_167 0 4 (dk_at dksX6_wrongPlace_1 18 rfl rfl)
theorem dX6_wrongPlace_43 : decode cX6_wrongPlace 43 = .ok (.iconst 0, 1) := dk_3 (dk_at dksX6_wrongPlace_1 21 rfl rfl)
theorem dX6_wrongPlace_44 : decode cX6_wrongPlace 44 = .ok (.ireturn, 1) := dk_172 (dk_at dksX6_wrongPlace_1 22 rfl rfl)
abbrev cX6_cut : ByteArray := prog_15_method_12_code
def yX6_cut : MethodName := ⟨RX6, "cut", "(JI)J"⟩
def dkwX6_cut_1 : List UInt8 := [5, 160, 0, 9, 30, 136, 133, 167, 0, 4, 30, 173]
abbrev dktX6_cut_1 : List UInt8 := dkwX6_cut_1 ++ []
def dkwX6_cut_0 : List UInt8 := [28, 154, 0, 10, 30, 136, 145, 133, 167, 0, 27, 28, 4, 160, 0, 10, 30, 136, 147, 133, 167, 0, 15, 28]
abbrev dktX6_cut_0 : List UInt8 := dkwX6_cut_0 ++ dktX6_cut_1
theorem dksX6_cut_0 : cX6_cut.data.toList.drop 0 = dktX6_cut_0 := by decide +kernel
theorem dksX6_cut_1 : cX6_cut.data.toList.drop 24 = dktX6_cut_1 := dk_seg dksX6_cut_0 24 rfl rfl
theorem dX6_cut_0 : decode cX6_cut 0 = .ok (.iload_n 2, 1) := dk_28 (dk_at dksX6_cut_0 0 rfl rfl)
theorem dX6_cut_1 : decode cX6_cut 1 = .ok (.ifCond .ne 10, 3) := dk_154 0 10 (dk_at dksX6_cut_0 1 rfl rfl)
theorem dX6_cut_4 : decode cX6_cut 4 = .ok (.lload_n 0, 1) := dk_30 (dk_at dksX6_cut_0 4 rfl rfl)
theorem dX6_cut_5 : decode cX6_cut 5 = .ok (.l2i, 1) := dk_136 (dk_at dksX6_cut_0 5 rfl rfl)
theorem dX6_cut_6 : decode cX6_cut 6 = .ok (.i2b, 1) := dk_145 (dk_at dksX6_cut_0 6 rfl rfl)
theorem dX6_cut_7 : decode cX6_cut 7 = .ok (.i2l, 1) := dk_133 (dk_at dksX6_cut_0 7 rfl rfl)
theorem dX6_cut_8 : decode cX6_cut 8 = .ok (.goto 27, 3) := dk_167 0 27 (dk_at dksX6_cut_0 8 rfl rfl)
theorem dX6_cut_11 : decode cX6_cut 11 = .ok (.iload_n 2, 1) := dk_28 (dk_at dksX6_cut_0 11 rfl rfl)
theorem dX6_cut_12 : decode cX6_cut 12 = .ok (.iconst 1, 1) := dk_4 (dk_at dksX6_cut_0 12 rfl rfl)
theorem dX6_cut_13 : decode cX6_cut 13 = .ok (.if_icmp .ne 10, 3) := dk_160 0 10 (dk_at dksX6_cut_0 13 rfl rfl)
theorem dX6_cut_16 : decode cX6_cut 16 = .ok (.lload_n 0, 1) := dk_30 (dk_at dksX6_cut_0 16 rfl rfl)
theorem dX6_cut_17 : decode cX6_cut 17 = .ok (.l2i, 1) := dk_136 (dk_at dksX6_cut_0 17 rfl rfl)
theorem dX6_cut_18 : decode cX6_cut 18 = .ok (.i2s, 1) := dk_147 (dk_at dksX6_cut_0 18 rfl rfl)
theorem dX6_cut_19 : decode cX6_cut 19 = .ok (.i2l, 1) := dk_133 (dk_at dksX6_cut_0 19 rfl rfl)
theorem dX6_cut_20 : decode cX6_cut 20 = .ok (.goto 15, 3) := dk_167 0 15 (dk_at dksX6_cut_0 20 rfl rfl)
theorem dX6_cut_23 : decode cX6_cut 23 = .ok (.iload_n 2, 1) := dk_28 (dk_at dksX6_cut_0 23 rfl rfl)
theorem dX6_cut_24 : decode cX6_cut 24 = .ok (.iconst 2, 1) := dk_5 (dk_at dksX6_cut_1 0 rfl rfl)
theorem dX6_cut_25 : decode cX6_cut 25 = .ok (.if_icmp .ne 9, 3) := dk_160 0 9 (dk_at dksX6_cut_1 1 rfl rfl)
theorem dX6_cut_28 : decode cX6_cut 28 = .ok (.lload_n 0, 1) := dk_30 (dk_at dksX6_cut_1 4 rfl rfl)
theorem dX6_cut_29 : decode cX6_cut 29 = .ok (.l2i, 1) := dk_136 (dk_at dksX6_cut_1 5 rfl rfl)
theorem dX6_cut_30 : decode cX6_cut 30 = .ok (.i2l, 1) := dk_133 (dk_at dksX6_cut_1 6 rfl rfl)
theorem dX6_cut_31 : decode cX6_cut 31 = .ok (.goto 4, 3) := dk_167 0 4 (dk_at dksX6_cut_1 7 rfl rfl)
theorem dX6_cut_34 : decode cX6_cut 34 = .ok (.lload_n 0, 1) := dk_30 (dk_at dksX6_cut_1 10 rfl rfl)
theorem dX6_cut_35 : decode cX6_cut 35 = .ok (.lreturn, 1) := dk_173 (dk_at dksX6_cut_1 11 rfl rfl)
abbrev cX6_read : ByteArray := prog_15_method_16_code
def yX6_read : MethodName := ⟨RX6, "read", "(II)J"⟩
def dkwX6_read_1 : List UInt8 := [180, 0, 27, 16, 60, 27, 104, 28, 96, 47, 173]
abbrev dktX6_read_1 : List UInt8 := dkwX6_read_1 ++ []
def dkwX6_read_0 : List UInt8 := [42, 42, 27, 28, 182, 0, 92, 181, 0, 72, 42, 180, 0, 72, 158, 0, 9, 20, 0, 100, 167, 0, 14, 42]
abbrev dktX6_read_0 : List UInt8 := dkwX6_read_0 ++ dktX6_read_1
theorem dksX6_read_0 : cX6_read.data.toList.drop 0 = dktX6_read_0 := by decide +kernel
theorem dksX6_read_1 : cX6_read.data.toList.drop 24 = dktX6_read_1 := dk_seg dksX6_read_0 24 rfl rfl
theorem dX6_read_0 : decode cX6_read 0 = .ok (.aload_n 0, 1) := dk_42 (dk_at dksX6_read_0 0 rfl rfl)
theorem dX6_read_1 : decode cX6_read 1 = .ok (.aload_n 0, 1) := dk_42 (dk_at dksX6_read_0 1 rfl rfl)
theorem dX6_read_2 : decode cX6_read 2 = .ok (.iload_n 1, 1) := dk_27 (dk_at dksX6_read_0 2 rfl rfl)
theorem dX6_read_3 : decode cX6_read 3 = .ok (.iload_n 2, 1) := dk_28 (dk_at dksX6_read_0 3 rfl rfl)
theorem dX6_read_4 : decode cX6_read 4 = .ok (.invokevirtual 92, 3) := dk_182 0 92 (dk_at dksX6_read_0 4 rfl rfl)
theorem dX6_read_7 : decode cX6_read 7 = .ok (.putfield 72, 3) := dk_181 0 72 (dk_at dksX6_read_0 7 rfl rfl)
theorem dX6_read_10 : decode cX6_read 10 = .ok (.aload_n 0, 1) := dk_42 (dk_at dksX6_read_0 10 rfl rfl)
theorem dX6_read_11 : decode cX6_read 11 = .ok (.getfield 72, 3) := dk_180 0 72 (dk_at dksX6_read_0 11 rfl rfl)
theorem dX6_read_14 : decode cX6_read 14 = .ok (.ifCond .le 9, 3) := dk_158 0 9 (dk_at dksX6_read_0 14 rfl rfl)
theorem dX6_read_17 : decode cX6_read 17 = .ok (.ldc2_w 100, 3) := dk_20 0 100 (dk_at dksX6_read_0 17 rfl rfl)
theorem dX6_read_20 : decode cX6_read 20 = .ok (.goto 14, 3) := dk_167 0 14 (dk_at dksX6_read_0 20 rfl rfl)
theorem dX6_read_23 : decode cX6_read 23 = .ok (.aload_n 0, 1) := dk_42 (dk_at dksX6_read_0 23 rfl rfl)
theorem dX6_read_24 : decode cX6_read 24 = .ok (.getfield 27, 3) := dk_180 0 27 (dk_at dksX6_read_1 0 rfl rfl)
theorem dX6_read_27 : decode cX6_read 27 = .ok (.bipush 60, 2) := dk_16 60 (dk_at dksX6_read_1 3 rfl rfl)
theorem dX6_read_29 : decode cX6_read 29 = .ok (.iload_n 1, 1) := dk_27 (dk_at dksX6_read_1 5 rfl rfl)
theorem dX6_read_30 : decode cX6_read 30 = .ok (.imul, 1) := dk_104 (dk_at dksX6_read_1 6 rfl rfl)
theorem dX6_read_31 : decode cX6_read 31 = .ok (.iload_n 2, 1) := dk_28 (dk_at dksX6_read_1 7 rfl rfl)
theorem dX6_read_32 : decode cX6_read 32 = .ok (.iadd, 1) := dk_96 (dk_at dksX6_read_1 8 rfl rfl)
theorem dX6_read_33 : decode cX6_read 33 = .ok (.laload, 1) := dk_47 (dk_at dksX6_read_1 9 rfl rfl)
theorem dX6_read_34 : decode cX6_read 34 = .ok (.lreturn, 1) := dk_173 (dk_at dksX6_read_1 10 rfl rfl)
abbrev cX6_pour : ByteArray := prog_15_method_17_code
def yX6_pour : MethodName := ⟨RX6, "pour", "(IIIII)Z"⟩
def dkwX6_pour_8 : List UInt8 := [182, 0, 85, 172]
abbrev dktX6_pour_8 : List UInt8 := dkwX6_pour_8 ++ []
def dkwX6_pour_7 : List UInt8 := [180, 0, 27, 16, 60, 27, 104, 28, 96, 21, 7, 96, 47, 80, 132, 6, 1, 167, 255, 197, 42, 3]
abbrev dktX6_pour_7 : List UInt8 := dkwX6_pour_7 ++ dktX6_pour_8
def dkwX6_pour_6 : List UInt8 := [167, 0, 5, 21, 6, 54, 7, 42, 180, 0, 27, 16, 60, 29, 104, 21, 4, 96, 21, 7, 96, 42]
abbrev dktX6_pour_6 : List UInt8 := dkwX6_pour_6 ++ dktX6_pour_7
def dkwX6_pour_5 : List UInt8 := [3, 54, 6, 21, 6, 21, 5, 162, 0, 58, 28, 21, 4, 162, 0, 13, 21, 5, 4, 100, 21, 6, 100]
abbrev dktX6_pour_5 : List UInt8 := dkwX6_pour_5 ++ dktX6_pour_6
def dkwX6_pour_4 : List UInt8 := [100, 163, 0, 17, 21, 5, 42, 180, 0, 24, 29, 46, 21, 4, 100, 164, 0, 9, 42, 6, 182, 0, 85, 172]
abbrev dktX6_pour_4 : List UInt8 := dkwX6_pour_4 ++ dktX6_pour_5
def dkwX6_pour_3 : List UInt8 := [180, 0, 21, 29, 46, 159, 0, 10, 42, 16, 8, 182, 0, 85, 172, 21, 5, 42, 180, 0, 24, 27, 46, 28]
abbrev dktX6_pour_3 : List UInt8 := dkwX6_pour_3 ++ dktX6_pour_4
def dkwX6_pour_2 : List UInt8 := [180, 0, 24, 29, 46, 2, 160, 0, 9, 42, 5, 182, 0, 85, 172, 42, 180, 0, 21, 27, 46, 42]
abbrev dktX6_pour_2 : List UInt8 := dkwX6_pour_2 ++ dktX6_pour_3
def dkwX6_pour_1 : List UInt8 := [21, 5, 156, 0, 9, 42, 4, 182, 0, 85, 172, 42, 180, 0, 24, 27, 46, 2, 159, 0, 13, 42]
abbrev dktX6_pour_1 : List UInt8 := dkwX6_pour_1 ++ dktX6_pour_2
def dkwX6_pour_0 : List UInt8 := [27, 184, 0, 89, 153, 0, 24, 29, 184, 0, 89, 153, 0, 17, 28, 155, 0, 13, 21, 4, 155, 0, 8]
abbrev dktX6_pour_0 : List UInt8 := dkwX6_pour_0 ++ dktX6_pour_1
theorem dksX6_pour_0 : cX6_pour.data.toList.drop 0 = dktX6_pour_0 := by decide +kernel
theorem dksX6_pour_1 : cX6_pour.data.toList.drop 23 = dktX6_pour_1 := dk_seg dksX6_pour_0 23 rfl rfl
theorem dksX6_pour_2 : cX6_pour.data.toList.drop 45 = dktX6_pour_2 := dk_seg dksX6_pour_1 22 rfl rfl
theorem dksX6_pour_3 : cX6_pour.data.toList.drop 67 = dktX6_pour_3 := dk_seg dksX6_pour_2 22 rfl rfl
theorem dksX6_pour_4 : cX6_pour.data.toList.drop 91 = dktX6_pour_4 := dk_seg dksX6_pour_3 24 rfl rfl
theorem dksX6_pour_5 : cX6_pour.data.toList.drop 115 = dktX6_pour_5 := dk_seg dksX6_pour_4 24 rfl rfl
theorem dksX6_pour_6 : cX6_pour.data.toList.drop 138 = dktX6_pour_6 := dk_seg dksX6_pour_5 23 rfl rfl
theorem dksX6_pour_7 : cX6_pour.data.toList.drop 160 = dktX6_pour_7 := dk_seg dksX6_pour_6 22 rfl rfl
theorem dksX6_pour_8 : cX6_pour.data.toList.drop 182 = dktX6_pour_8 := dk_seg dksX6_pour_7 22 rfl rfl
theorem dX6_pour_0 : decode cX6_pour 0 = .ok (.iload_n 1, 1) := dk_27 (dk_at dksX6_pour_0 0 rfl rfl)
theorem dX6_pour_1 : decode cX6_pour 1 = .ok (.invokestatic 89, 3) := dk_184 0 89 (dk_at dksX6_pour_0 1 rfl rfl)
theorem dX6_pour_4 : decode cX6_pour 4 = .ok (.ifCond .eq 24, 3) := dk_153 0 24 (dk_at dksX6_pour_0 4 rfl rfl)
theorem dX6_pour_7 : decode cX6_pour 7 = .ok (.iload_n 3, 1) := dk_29 (dk_at dksX6_pour_0 7 rfl rfl)
theorem dX6_pour_8 : decode cX6_pour 8 = .ok (.invokestatic 89, 3) := dk_184 0 89 (dk_at dksX6_pour_0 8 rfl rfl)
theorem dX6_pour_11 : decode cX6_pour 11 = .ok (.ifCond .eq 17, 3) := dk_153 0 17 (dk_at dksX6_pour_0 11 rfl rfl)
theorem dX6_pour_14 : decode cX6_pour 14 = .ok (.iload_n 2, 1) := dk_28 (dk_at dksX6_pour_0 14 rfl rfl)
theorem dX6_pour_15 : decode cX6_pour 15 = .ok (.ifCond .lt 13, 3) := dk_155 0 13 (dk_at dksX6_pour_0 15 rfl rfl)
theorem dX6_pour_18 : decode cX6_pour 18 = .ok (.iload 4, 2) := dk_21 4 (dk_at dksX6_pour_0 18 rfl rfl)
theorem dX6_pour_20 : decode cX6_pour 20 = .ok (.ifCond .lt 8, 3) := dk_155 0 8 (dk_at dksX6_pour_0 20 rfl rfl)
theorem dX6_pour_23 : decode cX6_pour 23 = .ok (.iload 5, 2) := dk_21 5 (dk_at dksX6_pour_1 0 rfl rfl)
theorem dX6_pour_25 : decode cX6_pour 25 = .ok (.ifCond .ge 9, 3) := dk_156 0 9 (dk_at dksX6_pour_1 2 rfl rfl)
theorem dX6_pour_28 : decode cX6_pour 28 = .ok (.aload_n 0, 1) := dk_42 (dk_at dksX6_pour_1 5 rfl rfl)
theorem dX6_pour_29 : decode cX6_pour 29 = .ok (.iconst 1, 1) := dk_4 (dk_at dksX6_pour_1 6 rfl rfl)
theorem dX6_pour_30 : decode cX6_pour 30 = .ok (.invokevirtual 85, 3) := dk_182 0 85 (dk_at dksX6_pour_1 7 rfl rfl)
theorem dX6_pour_33 : decode cX6_pour 33 = .ok (.ireturn, 1) := dk_172 (dk_at dksX6_pour_1 10 rfl rfl)
theorem dX6_pour_34 : decode cX6_pour 34 = .ok (.aload_n 0, 1) := dk_42 (dk_at dksX6_pour_1 11 rfl rfl)
theorem dX6_pour_35 : decode cX6_pour 35 = .ok (.getfield 24, 3) := dk_180 0 24 (dk_at dksX6_pour_1 12 rfl rfl)
theorem dX6_pour_38 : decode cX6_pour 38 = .ok (.iload_n 1, 1) := dk_27 (dk_at dksX6_pour_1 15 rfl rfl)
theorem dX6_pour_39 : decode cX6_pour 39 = .ok (.iaload, 1) := dk_46 (dk_at dksX6_pour_1 16 rfl rfl)
theorem dX6_pour_40 : decode cX6_pour 40 = .ok (.iconst (-1), 1) := dk_2 (dk_at dksX6_pour_1 17 rfl rfl)
theorem dX6_pour_41 : decode cX6_pour 41 = .ok (.if_icmp .eq 13, 3) := dk_159 0 13 (dk_at dksX6_pour_1 18 rfl rfl)
theorem dX6_pour_44 : decode cX6_pour 44 = .ok (.aload_n 0, 1) := dk_42 (dk_at dksX6_pour_1 21 rfl rfl)
theorem dX6_pour_45 : decode cX6_pour 45 = .ok (.getfield 24, 3) := dk_180 0 24 (dk_at dksX6_pour_2 0 rfl rfl)
theorem dX6_pour_48 : decode cX6_pour 48 = .ok (.iload_n 3, 1) := dk_29 (dk_at dksX6_pour_2 3 rfl rfl)
theorem dX6_pour_49 : decode cX6_pour 49 = .ok (.iaload, 1) := dk_46 (dk_at dksX6_pour_2 4 rfl rfl)
theorem dX6_pour_50 : decode cX6_pour 50 = .ok (.iconst (-1), 1) := dk_2 (dk_at dksX6_pour_2 5 rfl rfl)
theorem dX6_pour_51 : decode cX6_pour 51 = .ok (.if_icmp .ne 9, 3) := dk_160 0 9 (dk_at dksX6_pour_2 6 rfl rfl)
theorem dX6_pour_54 : decode cX6_pour 54 = .ok (.aload_n 0, 1) := dk_42 (dk_at dksX6_pour_2 9 rfl rfl)
theorem dX6_pour_55 : decode cX6_pour 55 = .ok (.iconst 2, 1) := dk_5 (dk_at dksX6_pour_2 10 rfl rfl)
theorem dX6_pour_56 : decode cX6_pour 56 = .ok (.invokevirtual 85, 3) := dk_182 0 85 (dk_at dksX6_pour_2 11 rfl rfl)
theorem dX6_pour_59 : decode cX6_pour 59 = .ok (.ireturn, 1) := dk_172 (dk_at dksX6_pour_2 14 rfl rfl)
theorem dX6_pour_60 : decode cX6_pour 60 = .ok (.aload_n 0, 1) := dk_42 (dk_at dksX6_pour_2 15 rfl rfl)
theorem dX6_pour_61 : decode cX6_pour 61 = .ok (.getfield 21, 3) := dk_180 0 21 (dk_at dksX6_pour_2 16 rfl rfl)
theorem dX6_pour_64 : decode cX6_pour 64 = .ok (.iload_n 1, 1) := dk_27 (dk_at dksX6_pour_2 19 rfl rfl)
theorem dX6_pour_65 : decode cX6_pour 65 = .ok (.iaload, 1) := dk_46 (dk_at dksX6_pour_2 20 rfl rfl)
theorem dX6_pour_66 : decode cX6_pour 66 = .ok (.aload_n 0, 1) := dk_42 (dk_at dksX6_pour_2 21 rfl rfl)
theorem dX6_pour_67 : decode cX6_pour 67 = .ok (.getfield 21, 3) := dk_180 0 21 (dk_at dksX6_pour_3 0 rfl rfl)
theorem dX6_pour_70 : decode cX6_pour 70 = .ok (.iload_n 3, 1) := dk_29 (dk_at dksX6_pour_3 3 rfl rfl)
theorem dX6_pour_71 : decode cX6_pour 71 = .ok (.iaload, 1) := dk_46 (dk_at dksX6_pour_3 4 rfl rfl)
theorem dX6_pour_72 : decode cX6_pour 72 = .ok (.if_icmp .eq 10, 3) := dk_159 0 10 (dk_at dksX6_pour_3 5 rfl rfl)
theorem dX6_pour_75 : decode cX6_pour 75 = .ok (.aload_n 0, 1) := dk_42 (dk_at dksX6_pour_3 8 rfl rfl)
theorem dX6_pour_76 : decode cX6_pour 76 = .ok (.bipush 8, 2) := dk_16 8 (dk_at dksX6_pour_3 9 rfl rfl)
theorem dX6_pour_78 : decode cX6_pour 78 = .ok (.invokevirtual 85, 3) := dk_182 0 85 (dk_at dksX6_pour_3 11 rfl rfl)
theorem dX6_pour_81 : decode cX6_pour 81 = .ok (.ireturn, 1) := dk_172 (dk_at dksX6_pour_3 14 rfl rfl)
theorem dX6_pour_82 : decode cX6_pour 82 = .ok (.iload 5, 2) := dk_21 5 (dk_at dksX6_pour_3 15 rfl rfl)
theorem dX6_pour_84 : decode cX6_pour 84 = .ok (.aload_n 0, 1) := dk_42 (dk_at dksX6_pour_3 17 rfl rfl)
theorem dX6_pour_85 : decode cX6_pour 85 = .ok (.getfield 24, 3) := dk_180 0 24 (dk_at dksX6_pour_3 18 rfl rfl)
theorem dX6_pour_88 : decode cX6_pour 88 = .ok (.iload_n 1, 1) := dk_27 (dk_at dksX6_pour_3 21 rfl rfl)
theorem dX6_pour_89 : decode cX6_pour 89 = .ok (.iaload, 1) := dk_46 (dk_at dksX6_pour_3 22 rfl rfl)
theorem dX6_pour_90 : decode cX6_pour 90 = .ok (.iload_n 2, 1) := dk_28 (dk_at dksX6_pour_3 23 rfl rfl)
theorem dX6_pour_91 : decode cX6_pour 91 = .ok (.isub, 1) := dk_100 (dk_at dksX6_pour_4 0 rfl rfl)
theorem dX6_pour_92 : decode cX6_pour 92 = .ok (.if_icmp .gt 17, 3) := dk_163 0 17 (dk_at dksX6_pour_4 1 rfl rfl)
theorem dX6_pour_95 : decode cX6_pour 95 = .ok (.iload 5, 2) := dk_21 5 (dk_at dksX6_pour_4 4 rfl rfl)
theorem dX6_pour_97 : decode cX6_pour 97 = .ok (.aload_n 0, 1) := dk_42 (dk_at dksX6_pour_4 6 rfl rfl)
theorem dX6_pour_98 : decode cX6_pour 98 = .ok (.getfield 24, 3) := dk_180 0 24 (dk_at dksX6_pour_4 7 rfl rfl)
theorem dX6_pour_101 : decode cX6_pour 101 = .ok (.iload_n 3, 1) := dk_29 (dk_at dksX6_pour_4 10 rfl rfl)
theorem dX6_pour_102 : decode cX6_pour 102 = .ok (.iaload, 1) := dk_46 (dk_at dksX6_pour_4 11 rfl rfl)
theorem dX6_pour_103 : decode cX6_pour 103 = .ok (.iload 4, 2) := dk_21 4 (dk_at dksX6_pour_4 12 rfl rfl)
theorem dX6_pour_105 : decode cX6_pour 105 = .ok (.isub, 1) := dk_100 (dk_at dksX6_pour_4 14 rfl rfl)
theorem dX6_pour_106 : decode cX6_pour 106 = .ok (.if_icmp .le 9, 3) := dk_164 0 9 (dk_at dksX6_pour_4 15 rfl rfl)
theorem dX6_pour_109 : decode cX6_pour 109 = .ok (.aload_n 0, 1) := dk_42 (dk_at dksX6_pour_4 18 rfl rfl)
theorem dX6_pour_110 : decode cX6_pour 110 = .ok (.iconst 3, 1) := dk_6 (dk_at dksX6_pour_4 19 rfl rfl)
theorem dX6_pour_111 : decode cX6_pour 111 = .ok (.invokevirtual 85, 3) := dk_182 0 85 (dk_at dksX6_pour_4 20 rfl rfl)
theorem dX6_pour_114 : decode cX6_pour 114 = .ok (.ireturn, 1) := dk_172 (dk_at dksX6_pour_4 23 rfl rfl)
theorem dX6_pour_115 : decode cX6_pour 115 = .ok (.iconst 0, 1) := dk_3 (dk_at dksX6_pour_5 0 rfl rfl)
theorem dX6_pour_116 : decode cX6_pour 116 = .ok (.istore 6, 2) := dk_54 6 (dk_at dksX6_pour_5 1 rfl rfl)
theorem dX6_pour_118 : decode cX6_pour 118 = .ok (.iload 6, 2) := dk_21 6 (dk_at dksX6_pour_5 3 rfl rfl)
theorem dX6_pour_120 : decode cX6_pour 120 = .ok (.iload 5, 2) := dk_21 5 (dk_at dksX6_pour_5 5 rfl rfl)
theorem dX6_pour_122 : decode cX6_pour 122 = .ok (.if_icmp .ge 58, 3) := dk_162 0 58 (dk_at dksX6_pour_5 7 rfl rfl)
theorem dX6_pour_125 : decode cX6_pour 125 = .ok (.iload_n 2, 1) := dk_28 (dk_at dksX6_pour_5 10 rfl rfl)
theorem dX6_pour_126 : decode cX6_pour 126 = .ok (.iload 4, 2) := dk_21 4 (dk_at dksX6_pour_5 11 rfl rfl)
theorem dX6_pour_128 : decode cX6_pour 128 = .ok (.if_icmp .ge 13, 3) := dk_162 0 13 (dk_at dksX6_pour_5 13 rfl rfl)
theorem dX6_pour_131 : decode cX6_pour 131 = .ok (.iload 5, 2) := dk_21 5 (dk_at dksX6_pour_5 16 rfl rfl)
theorem dX6_pour_133 : decode cX6_pour 133 = .ok (.iconst 1, 1) := dk_4 (dk_at dksX6_pour_5 18 rfl rfl)
theorem dX6_pour_134 : decode cX6_pour 134 = .ok (.isub, 1) := dk_100 (dk_at dksX6_pour_5 19 rfl rfl)
theorem dX6_pour_135 : decode cX6_pour 135 = .ok (.iload 6, 2) := dk_21 6 (dk_at dksX6_pour_5 20 rfl rfl)
theorem dX6_pour_137 : decode cX6_pour 137 = .ok (.isub, 1) := dk_100 (dk_at dksX6_pour_5 22 rfl rfl)
theorem dX6_pour_138 : decode cX6_pour 138 = .ok (.goto 5, 3) := dk_167 0 5 (dk_at dksX6_pour_6 0 rfl rfl)
theorem dX6_pour_141 : decode cX6_pour 141 = .ok (.iload 6, 2) := dk_21 6 (dk_at dksX6_pour_6 3 rfl rfl)
theorem dX6_pour_143 : decode cX6_pour 143 = .ok (.istore 7, 2) := dk_54 7 (dk_at dksX6_pour_6 5 rfl rfl)
theorem dX6_pour_145 : decode cX6_pour 145 = .ok (.aload_n 0, 1) := dk_42 (dk_at dksX6_pour_6 7 rfl rfl)
theorem dX6_pour_146 : decode cX6_pour 146 = .ok (.getfield 27, 3) := dk_180 0 27 (dk_at dksX6_pour_6 8 rfl rfl)
theorem dX6_pour_149 : decode cX6_pour 149 = .ok (.bipush 60, 2) := dk_16 60 (dk_at dksX6_pour_6 11 rfl rfl)
theorem dX6_pour_151 : decode cX6_pour 151 = .ok (.iload_n 3, 1) := dk_29 (dk_at dksX6_pour_6 13 rfl rfl)
theorem dX6_pour_152 : decode cX6_pour 152 = .ok (.imul, 1) := dk_104 (dk_at dksX6_pour_6 14 rfl rfl)
theorem dX6_pour_153 : decode cX6_pour 153 = .ok (.iload 4, 2) := dk_21 4 (dk_at dksX6_pour_6 15 rfl rfl)
theorem dX6_pour_155 : decode cX6_pour 155 = .ok (.iadd, 1) := dk_96 (dk_at dksX6_pour_6 17 rfl rfl)
theorem dX6_pour_156 : decode cX6_pour 156 = .ok (.iload 7, 2) := dk_21 7 (dk_at dksX6_pour_6 18 rfl rfl)
theorem dX6_pour_158 : decode cX6_pour 158 = .ok (.iadd, 1) := dk_96 (dk_at dksX6_pour_6 20 rfl rfl)
theorem dX6_pour_159 : decode cX6_pour 159 = .ok (.aload_n 0, 1) := dk_42 (dk_at dksX6_pour_6 21 rfl rfl)
theorem dX6_pour_160 : decode cX6_pour 160 = .ok (.getfield 27, 3) := dk_180 0 27 (dk_at dksX6_pour_7 0 rfl rfl)
theorem dX6_pour_163 : decode cX6_pour 163 = .ok (.bipush 60, 2) := dk_16 60 (dk_at dksX6_pour_7 3 rfl rfl)
theorem dX6_pour_165 : decode cX6_pour 165 = .ok (.iload_n 1, 1) := dk_27 (dk_at dksX6_pour_7 5 rfl rfl)
theorem dX6_pour_166 : decode cX6_pour 166 = .ok (.imul, 1) := dk_104 (dk_at dksX6_pour_7 6 rfl rfl)
theorem dX6_pour_167 : decode cX6_pour 167 = .ok (.iload_n 2, 1) := dk_28 (dk_at dksX6_pour_7 7 rfl rfl)
theorem dX6_pour_168 : decode cX6_pour 168 = .ok (.iadd, 1) := dk_96 (dk_at dksX6_pour_7 8 rfl rfl)
theorem dX6_pour_169 : decode cX6_pour 169 = .ok (.iload 7, 2) := dk_21 7 (dk_at dksX6_pour_7 9 rfl rfl)
theorem dX6_pour_171 : decode cX6_pour 171 = .ok (.iadd, 1) := dk_96 (dk_at dksX6_pour_7 11 rfl rfl)
theorem dX6_pour_172 : decode cX6_pour 172 = .ok (.laload, 1) := dk_47 (dk_at dksX6_pour_7 12 rfl rfl)
theorem dX6_pour_173 : decode cX6_pour 173 = .ok (.lastore, 1) := dk_80 (dk_at dksX6_pour_7 13 rfl rfl)
theorem dX6_pour_174 : decode cX6_pour 174 = .ok (.iinc 6 1, 3) := dk_132 6 1 (dk_at dksX6_pour_7 14 rfl rfl)
theorem dX6_pour_177 : decode cX6_pour 177 = .ok (.goto (-59), 3) := dk_167 255 197 (dk_at dksX6_pour_7 17 rfl rfl)
theorem dX6_pour_180 : decode cX6_pour 180 = .ok (.aload_n 0, 1) := dk_42 (dk_at dksX6_pour_7 20 rfl rfl)
theorem dX6_pour_181 : decode cX6_pour 181 = .ok (.iconst 0, 1) := dk_3 (dk_at dksX6_pour_7 21 rfl rfl)
theorem dX6_pour_182 : decode cX6_pour 182 = .ok (.invokevirtual 85, 3) := dk_182 0 85 (dk_at dksX6_pour_8 0 rfl rfl)
theorem dX6_pour_185 : decode cX6_pour 185 = .ok (.ireturn, 1) := dk_172 (dk_at dksX6_pour_8 3 rfl rfl)
abbrev cX6_feed : ByteArray := prog_15_method_19_code
def yX6_feed : MethodName := ⟨RX6, "feed", "(IIIII)I"⟩
def dkwX6_feed_2 : List UInt8 := [172]
abbrev dktX6_feed_2 : List UInt8 := dkwX6_feed_2 ++ []
def dkwX6_feed_1 : List UInt8 := [182, 0, 105, 42, 29, 182, 0, 105, 42, 21, 4, 182, 0, 105, 42, 21, 5, 182, 0, 105, 42, 180, 0, 102]
abbrev dktX6_feed_1 : List UInt8 := dkwX6_feed_1 ++ dktX6_feed_2
def dkwX6_feed_0 : List UInt8 := [42, 180, 0, 102, 16, 20, 96, 17, 3, 132, 164, 0, 5, 2, 172, 42, 27, 182, 0, 105, 42, 28]
abbrev dktX6_feed_0 : List UInt8 := dkwX6_feed_0 ++ dktX6_feed_1
theorem dksX6_feed_0 : cX6_feed.data.toList.drop 0 = dktX6_feed_0 := by decide +kernel
theorem dksX6_feed_1 : cX6_feed.data.toList.drop 22 = dktX6_feed_1 := dk_seg dksX6_feed_0 22 rfl rfl
theorem dksX6_feed_2 : cX6_feed.data.toList.drop 46 = dktX6_feed_2 := dk_seg dksX6_feed_1 24 rfl rfl
theorem dX6_feed_0 : decode cX6_feed 0 = .ok (.aload_n 0, 1) := dk_42 (dk_at dksX6_feed_0 0 rfl rfl)
theorem dX6_feed_1 : decode cX6_feed 1 = .ok (.getfield 102, 3) := dk_180 0 102 (dk_at dksX6_feed_0 1 rfl rfl)
theorem dX6_feed_4 : decode cX6_feed 4 = .ok (.bipush 20, 2) := dk_16 20 (dk_at dksX6_feed_0 4 rfl rfl)
theorem dX6_feed_6 : decode cX6_feed 6 = .ok (.iadd, 1) := dk_96 (dk_at dksX6_feed_0 6 rfl rfl)
theorem dX6_feed_7 : decode cX6_feed 7 = .ok (.sipush 900, 3) := dk_17 3 132 (dk_at dksX6_feed_0 7 rfl rfl)
theorem dX6_feed_10 : decode cX6_feed 10 = .ok (.if_icmp .le 5, 3) := dk_164 0 5 (dk_at dksX6_feed_0 10 rfl rfl)
theorem dX6_feed_13 : decode cX6_feed 13 = .ok (.iconst (-1), 1) := dk_2 (dk_at dksX6_feed_0 13 rfl rfl)
theorem dX6_feed_14 : decode cX6_feed 14 = .ok (.ireturn, 1) := dk_172 (dk_at dksX6_feed_0 14 rfl rfl)
theorem dX6_feed_15 : decode cX6_feed 15 = .ok (.aload_n 0, 1) := dk_42 (dk_at dksX6_feed_0 15 rfl rfl)
theorem dX6_feed_16 : decode cX6_feed 16 = .ok (.iload_n 1, 1) := dk_27 (dk_at dksX6_feed_0 16 rfl rfl)
theorem dX6_feed_17 : decode cX6_feed 17 = .ok (.invokevirtual 105, 3) := dk_182 0 105 (dk_at dksX6_feed_0 17 rfl rfl)
theorem dX6_feed_20 : decode cX6_feed 20 = .ok (.aload_n 0, 1) := dk_42 (dk_at dksX6_feed_0 20 rfl rfl)
theorem dX6_feed_21 : decode cX6_feed 21 = .ok (.iload_n 2, 1) := dk_28 (dk_at dksX6_feed_0 21 rfl rfl)
theorem dX6_feed_22 : decode cX6_feed 22 = .ok (.invokevirtual 105, 3) := dk_182 0 105 (dk_at dksX6_feed_1 0 rfl rfl)
theorem dX6_feed_25 : decode cX6_feed 25 = .ok (.aload_n 0, 1) := dk_42 (dk_at dksX6_feed_1 3 rfl rfl)
theorem dX6_feed_26 : decode cX6_feed 26 = .ok (.iload_n 3, 1) := dk_29 (dk_at dksX6_feed_1 4 rfl rfl)
theorem dX6_feed_27 : decode cX6_feed 27 = .ok (.invokevirtual 105, 3) := dk_182 0 105 (dk_at dksX6_feed_1 5 rfl rfl)
theorem dX6_feed_30 : decode cX6_feed 30 = .ok (.aload_n 0, 1) := dk_42 (dk_at dksX6_feed_1 8 rfl rfl)
theorem dX6_feed_31 : decode cX6_feed 31 = .ok (.iload 4, 2) := dk_21 4 (dk_at dksX6_feed_1 9 rfl rfl)
theorem dX6_feed_33 : decode cX6_feed 33 = .ok (.invokevirtual 105, 3) := dk_182 0 105 (dk_at dksX6_feed_1 11 rfl rfl)
theorem dX6_feed_36 : decode cX6_feed 36 = .ok (.aload_n 0, 1) := dk_42 (dk_at dksX6_feed_1 14 rfl rfl)
theorem dX6_feed_37 : decode cX6_feed 37 = .ok (.iload 5, 2) := dk_21 5 (dk_at dksX6_feed_1 15 rfl rfl)
theorem dX6_feed_39 : decode cX6_feed 39 = .ok (.invokevirtual 105, 3) := dk_182 0 105 (dk_at dksX6_feed_1 17 rfl rfl)
theorem dX6_feed_42 : decode cX6_feed 42 = .ok (.aload_n 0, 1) := dk_42 (dk_at dksX6_feed_1 20 rfl rfl)
theorem dX6_feed_43 : decode cX6_feed 43 = .ok (.getfield 102, 3) := dk_180 0 102 (dk_at dksX6_feed_1 21 rfl rfl)
theorem dX6_feed_46 : decode cX6_feed 46 = .ok (.ireturn, 1) := dk_172 (dk_at dksX6_feed_2 0 rfl rfl)
abbrev cX6_four : ByteArray := prog_15_method_20_code
def yX6_four : MethodName := ⟨RX6, "four", "(I)V"⟩
def dkwX6_four_1 : List UInt8 := [180, 0, 102, 4, 96, 181, 0, 102, 132, 2, 248, 167, 255, 226, 177]
abbrev dktX6_four_1 : List UInt8 := dkwX6_four_1 ++ []
def dkwX6_four_0 : List UInt8 := [16, 24, 61, 28, 155, 0, 32, 42, 180, 0, 30, 42, 180, 0, 102, 27, 28, 122, 145, 84, 42, 89]
abbrev dktX6_four_0 : List UInt8 := dkwX6_four_0 ++ dktX6_four_1
theorem dksX6_four_0 : cX6_four.data.toList.drop 0 = dktX6_four_0 := by decide +kernel
theorem dksX6_four_1 : cX6_four.data.toList.drop 22 = dktX6_four_1 := dk_seg dksX6_four_0 22 rfl rfl
theorem dX6_four_0 : decode cX6_four 0 = .ok (.bipush 24, 2) := dk_16 24 (dk_at dksX6_four_0 0 rfl rfl)
theorem dX6_four_2 : decode cX6_four 2 = .ok (.istore_n 2, 1) := dk_61 (dk_at dksX6_four_0 2 rfl rfl)
theorem dX6_four_3 : decode cX6_four 3 = .ok (.iload_n 2, 1) := dk_28 (dk_at dksX6_four_0 3 rfl rfl)
theorem dX6_four_4 : decode cX6_four 4 = .ok (.ifCond .lt 32, 3) := dk_155 0 32 (dk_at dksX6_four_0 4 rfl rfl)
theorem dX6_four_7 : decode cX6_four 7 = .ok (.aload_n 0, 1) := dk_42 (dk_at dksX6_four_0 7 rfl rfl)
theorem dX6_four_8 : decode cX6_four 8 = .ok (.getfield 30, 3) := dk_180 0 30 (dk_at dksX6_four_0 8 rfl rfl)
theorem dX6_four_11 : decode cX6_four 11 = .ok (.aload_n 0, 1) := dk_42 (dk_at dksX6_four_0 11 rfl rfl)
theorem dX6_four_12 : decode cX6_four 12 = .ok (.getfield 102, 3) := dk_180 0 102 (dk_at dksX6_four_0 12 rfl rfl)
theorem dX6_four_15 : decode cX6_four 15 = .ok (.iload_n 1, 1) := dk_27 (dk_at dksX6_four_0 15 rfl rfl)
theorem dX6_four_16 : decode cX6_four 16 = .ok (.iload_n 2, 1) := dk_28 (dk_at dksX6_four_0 16 rfl rfl)
theorem dX6_four_17 : decode cX6_four 17 = .ok (.ishr, 1) := dk_122 (dk_at dksX6_four_0 17 rfl rfl)
theorem dX6_four_18 : decode cX6_four 18 = .ok (.i2b, 1) := dk_145 (dk_at dksX6_four_0 18 rfl rfl)
theorem dX6_four_19 : decode cX6_four 19 = .ok (.bastore, 1) := dk_84 (dk_at dksX6_four_0 19 rfl rfl)
theorem dX6_four_20 : decode cX6_four 20 = .ok (.aload_n 0, 1) := dk_42 (dk_at dksX6_four_0 20 rfl rfl)
theorem dX6_four_21 : decode cX6_four 21 = .ok (.dup, 1) := dk_89 (dk_at dksX6_four_0 21 rfl rfl)
theorem dX6_four_22 : decode cX6_four 22 = .ok (.getfield 102, 3) := dk_180 0 102 (dk_at dksX6_four_1 0 rfl rfl)
theorem dX6_four_25 : decode cX6_four 25 = .ok (.iconst 1, 1) := dk_4 (dk_at dksX6_four_1 3 rfl rfl)
theorem dX6_four_26 : decode cX6_four 26 = .ok (.iadd, 1) := dk_96 (dk_at dksX6_four_1 4 rfl rfl)
theorem dX6_four_27 : decode cX6_four 27 = .ok (.putfield 102, 3) := dk_181 0 102 (dk_at dksX6_four_1 5 rfl rfl)
theorem dX6_four_30 : decode cX6_four 30 = .ok (.iinc 2 (-8), 3) := dk_132 2 248 (dk_at dksX6_four_1 8 rfl rfl)
theorem dX6_four_33 : decode cX6_four 33 = .ok (.goto (-30), 3) := dk_167 255 226 (dk_at dksX6_four_1 11 rfl rfl)
theorem dX6_four_36 : decode cX6_four 36 = .ok (.return_, 1) := dk_177 (dk_at dksX6_four_1 14 rfl rfl)
abbrev cX6_fault : ByteArray := prog_15_method_35_code
def yX6_fault : MethodName := ⟨RX6, "fault", "(I)I"⟩
def dkwX6_fault_1 : List UInt8 := [172]
abbrev dktX6_fault_1 : List UInt8 := dkwX6_fault_1 ++ []
def dkwX6_fault_0 : List UInt8 := [27, 154, 0, 10, 42, 180, 0, 37, 167, 0, 16, 27, 4, 160, 0, 10, 42, 180, 0, 41, 167, 0, 4, 2]
abbrev dktX6_fault_0 : List UInt8 := dkwX6_fault_0 ++ dktX6_fault_1
theorem dksX6_fault_0 : cX6_fault.data.toList.drop 0 = dktX6_fault_0 := by decide +kernel
theorem dksX6_fault_1 : cX6_fault.data.toList.drop 24 = dktX6_fault_1 := dk_seg dksX6_fault_0 24 rfl rfl
theorem dX6_fault_0 : decode cX6_fault 0 = .ok (.iload_n 1, 1) := dk_27 (dk_at dksX6_fault_0 0 rfl rfl)
theorem dX6_fault_1 : decode cX6_fault 1 = .ok (.ifCond .ne 10, 3) := dk_154 0 10 (dk_at dksX6_fault_0 1 rfl rfl)
theorem dX6_fault_4 : decode cX6_fault 4 = .ok (.aload_n 0, 1) := dk_42 (dk_at dksX6_fault_0 4 rfl rfl)
theorem dX6_fault_5 : decode cX6_fault 5 = .ok (.getfield 37, 3) := dk_180 0 37 (dk_at dksX6_fault_0 5 rfl rfl)
theorem dX6_fault_8 : decode cX6_fault 8 = .ok (.goto 16, 3) := dk_167 0 16 (dk_at dksX6_fault_0 8 rfl rfl)
theorem dX6_fault_11 : decode cX6_fault 11 = .ok (.iload_n 1, 1) := dk_27 (dk_at dksX6_fault_0 11 rfl rfl)
theorem dX6_fault_12 : decode cX6_fault 12 = .ok (.iconst 1, 1) := dk_4 (dk_at dksX6_fault_0 12 rfl rfl)
theorem dX6_fault_13 : decode cX6_fault 13 = .ok (.if_icmp .ne 10, 3) := dk_160 0 10 (dk_at dksX6_fault_0 13 rfl rfl)
theorem dX6_fault_16 : decode cX6_fault 16 = .ok (.aload_n 0, 1) := dk_42 (dk_at dksX6_fault_0 16 rfl rfl)
theorem dX6_fault_17 : decode cX6_fault 17 = .ok (.getfield 41, 3) := dk_180 0 41 (dk_at dksX6_fault_0 17 rfl rfl)
theorem dX6_fault_20 : decode cX6_fault 20 = .ok (.goto 4, 3) := dk_167 0 4 (dk_at dksX6_fault_0 20 rfl rfl)
theorem dX6_fault_23 : decode cX6_fault 23 = .ok (.iconst (-1), 1) := dk_2 (dk_at dksX6_fault_0 23 rfl rfl)
theorem dX6_fault_24 : decode cX6_fault 24 = .ok (.ireturn, 1) := dk_172 (dk_at dksX6_fault_1 0 rfl rfl)
abbrev cX6_boat : ByteArray := prog_15_method_47_code
def yX6_boat : MethodName := ⟨RX6, "boat", "(I)I"⟩
def dkwX6_boat_5 : List UInt8 := [42, 42, 180, 0, 7, 4, 46, 182, 0, 229, 172]
abbrev dktX6_boat_5 : List UInt8 := dkwX6_boat_5 ++ []
def dkwX6_boat_4 : List UInt8 := [162, 0, 24, 42, 180, 0, 13, 29, 42, 180, 0, 13, 16, 56, 29, 96, 47, 80, 132, 3, 1, 167, 255, 232]
abbrev dktX6_boat_4 : List UInt8 := dkwX6_boat_4 ++ dktX6_boat_5
def dkwX6_boat_3 : List UInt8 := [42, 180, 0, 7, 17, 6, 128, 29, 96, 46, 79, 132, 3, 1, 167, 255, 230, 3, 62, 29, 16, 14]
abbrev dktX6_boat_3 : List UInt8 := dkwX6_boat_3 ++ dktX6_boat_4
def dkwX6_boat_2 : List UInt8 := [167, 255, 240, 42, 180, 0, 148, 154, 0, 63, 3, 62, 29, 17, 1, 160, 162, 0, 25, 42, 180, 0, 7, 29]
abbrev dktX6_boat_2 : List UInt8 := dkwX6_boat_2 ++ dktX6_boat_3
def dkwX6_boat_1 : List UInt8 := [42, 3, 181, 0, 206, 4, 61, 28, 153, 0, 18, 42, 180, 0, 123, 153, 0, 11, 42, 182, 0, 226, 61]
abbrev dktX6_boat_1 : List UInt8 := dkwX6_boat_1 ++ dktX6_boat_2
def dkwX6_boat_0 : List UInt8 := [42, 27, 17, 3, 132, 182, 0, 222, 154, 0, 9, 42, 4, 182, 0, 78, 172, 42, 17, 6, 128, 182, 0, 68]
abbrev dktX6_boat_0 : List UInt8 := dkwX6_boat_0 ++ dktX6_boat_1
theorem dksX6_boat_0 : cX6_boat.data.toList.drop 0 = dktX6_boat_0 := by decide +kernel
theorem dksX6_boat_1 : cX6_boat.data.toList.drop 24 = dktX6_boat_1 := dk_seg dksX6_boat_0 24 rfl rfl
theorem dksX6_boat_2 : cX6_boat.data.toList.drop 47 = dktX6_boat_2 := dk_seg dksX6_boat_1 23 rfl rfl
theorem dksX6_boat_3 : cX6_boat.data.toList.drop 71 = dktX6_boat_3 := dk_seg dksX6_boat_2 24 rfl rfl
theorem dksX6_boat_4 : cX6_boat.data.toList.drop 93 = dktX6_boat_4 := dk_seg dksX6_boat_3 22 rfl rfl
theorem dksX6_boat_5 : cX6_boat.data.toList.drop 117 = dktX6_boat_5 := dk_seg dksX6_boat_4 24 rfl rfl
theorem dX6_boat_0 : decode cX6_boat 0 = .ok (.aload_n 0, 1) := dk_42 (dk_at dksX6_boat_0 0 rfl rfl)
theorem dX6_boat_1 : decode cX6_boat 1 = .ok (.iload_n 1, 1) := dk_27 (dk_at dksX6_boat_0 1 rfl rfl)
theorem dX6_boat_2 : decode cX6_boat 2 = .ok (.sipush 900, 3) := dk_17 3 132 (dk_at dksX6_boat_0 2 rfl rfl)
theorem dX6_boat_5 : decode cX6_boat 5 = .ok (.invokevirtual 222, 3) := dk_182 0 222 (dk_at dksX6_boat_0 5 rfl rfl)
theorem dX6_boat_8 : decode cX6_boat 8 = .ok (.ifCond .ne 9, 3) := dk_154 0 9 (dk_at dksX6_boat_0 8 rfl rfl)
theorem dX6_boat_11 : decode cX6_boat 11 = .ok (.aload_n 0, 1) := dk_42 (dk_at dksX6_boat_0 11 rfl rfl)
theorem dX6_boat_12 : decode cX6_boat 12 = .ok (.iconst 1, 1) := dk_4 (dk_at dksX6_boat_0 12 rfl rfl)
theorem dX6_boat_13 : decode cX6_boat 13 = .ok (.invokevirtual 78, 3) := dk_182 0 78 (dk_at dksX6_boat_0 13 rfl rfl)
theorem dX6_boat_16 : decode cX6_boat 16 = .ok (.ireturn, 1) := dk_172 (dk_at dksX6_boat_0 16 rfl rfl)
theorem dX6_boat_17 : decode cX6_boat 17 = .ok (.aload_n 0, 1) := dk_42 (dk_at dksX6_boat_0 17 rfl rfl)
theorem dX6_boat_18 : decode cX6_boat 18 = .ok (.sipush 1664, 3) := dk_17 6 128 (dk_at dksX6_boat_0 18 rfl rfl)
theorem dX6_boat_21 : decode cX6_boat 21 = .ok (.invokevirtual 68, 3) := dk_182 0 68 (dk_at dksX6_boat_0 21 rfl rfl)
theorem dX6_boat_24 : decode cX6_boat 24 = .ok (.aload_n 0, 1) := dk_42 (dk_at dksX6_boat_1 0 rfl rfl)
theorem dX6_boat_25 : decode cX6_boat 25 = .ok (.iconst 0, 1) := dk_3 (dk_at dksX6_boat_1 1 rfl rfl)
theorem dX6_boat_26 : decode cX6_boat 26 = .ok (.putfield 206, 3) := dk_181 0 206 (dk_at dksX6_boat_1 2 rfl rfl)
theorem dX6_boat_29 : decode cX6_boat 29 = .ok (.iconst 1, 1) := dk_4 (dk_at dksX6_boat_1 5 rfl rfl)
theorem dX6_boat_30 : decode cX6_boat 30 = .ok (.istore_n 2, 1) := dk_61 (dk_at dksX6_boat_1 6 rfl rfl)
theorem dX6_boat_31 : decode cX6_boat 31 = .ok (.iload_n 2, 1) := dk_28 (dk_at dksX6_boat_1 7 rfl rfl)
theorem dX6_boat_32 : decode cX6_boat 32 = .ok (.ifCond .eq 18, 3) := dk_153 0 18 (dk_at dksX6_boat_1 8 rfl rfl)
theorem dX6_boat_35 : decode cX6_boat 35 = .ok (.aload_n 0, 1) := dk_42 (dk_at dksX6_boat_1 11 rfl rfl)
theorem dX6_boat_36 : decode cX6_boat 36 = .ok (.getfield 123, 3) := dk_180 0 123 (dk_at dksX6_boat_1 12 rfl rfl)
theorem dX6_boat_39 : decode cX6_boat 39 = .ok (.ifCond .eq 11, 3) := dk_153 0 11 (dk_at dksX6_boat_1 15 rfl rfl)
theorem dX6_boat_42 : decode cX6_boat 42 = .ok (.aload_n 0, 1) := dk_42 (dk_at dksX6_boat_1 18 rfl rfl)
theorem dX6_boat_43 : decode cX6_boat 43 = .ok (.invokevirtual 226, 3) := dk_182 0 226 (dk_at dksX6_boat_1 19 rfl rfl)
theorem dX6_boat_46 : decode cX6_boat 46 = .ok (.istore_n 2, 1) := dk_61 (dk_at dksX6_boat_1 22 rfl rfl)
theorem dX6_boat_47 : decode cX6_boat 47 = .ok (.goto (-16), 3) := dk_167 255 240 (dk_at dksX6_boat_2 0 rfl rfl)
theorem dX6_boat_50 : decode cX6_boat 50 = .ok (.aload_n 0, 1) := dk_42 (dk_at dksX6_boat_2 3 rfl rfl)
theorem dX6_boat_51 : decode cX6_boat 51 = .ok (.getfield 148, 3) := dk_180 0 148 (dk_at dksX6_boat_2 4 rfl rfl)
theorem dX6_boat_54 : decode cX6_boat 54 = .ok (.ifCond .ne 63, 3) := dk_154 0 63 (dk_at dksX6_boat_2 7 rfl rfl)
theorem dX6_boat_57 : decode cX6_boat 57 = .ok (.iconst 0, 1) := dk_3 (dk_at dksX6_boat_2 10 rfl rfl)
theorem dX6_boat_58 : decode cX6_boat 58 = .ok (.istore_n 3, 1) := dk_62 (dk_at dksX6_boat_2 11 rfl rfl)
theorem dX6_boat_59 : decode cX6_boat 59 = .ok (.iload_n 3, 1) := dk_29 (dk_at dksX6_boat_2 12 rfl rfl)
theorem dX6_boat_60 : decode cX6_boat 60 = .ok (.sipush 416, 3) := dk_17 1 160 (dk_at dksX6_boat_2 13 rfl rfl)
theorem dX6_boat_63 : decode cX6_boat 63 = .ok (.if_icmp .ge 25, 3) := dk_162 0 25 (dk_at dksX6_boat_2 16 rfl rfl)
theorem dX6_boat_66 : decode cX6_boat 66 = .ok (.aload_n 0, 1) := dk_42 (dk_at dksX6_boat_2 19 rfl rfl)
theorem dX6_boat_67 : decode cX6_boat 67 = .ok (.getfield 7, 3) := dk_180 0 7 (dk_at dksX6_boat_2 20 rfl rfl)
theorem dX6_boat_70 : decode cX6_boat 70 = .ok (.iload_n 3, 1) := dk_29 (dk_at dksX6_boat_2 23 rfl rfl)
theorem dX6_boat_71 : decode cX6_boat 71 = .ok (.aload_n 0, 1) := dk_42 (dk_at dksX6_boat_3 0 rfl rfl)
theorem dX6_boat_72 : decode cX6_boat 72 = .ok (.getfield 7, 3) := dk_180 0 7 (dk_at dksX6_boat_3 1 rfl rfl)
theorem dX6_boat_75 : decode cX6_boat 75 = .ok (.sipush 1664, 3) := dk_17 6 128 (dk_at dksX6_boat_3 4 rfl rfl)
theorem dX6_boat_78 : decode cX6_boat 78 = .ok (.iload_n 3, 1) := dk_29 (dk_at dksX6_boat_3 7 rfl rfl)
theorem dX6_boat_79 : decode cX6_boat 79 = .ok (.iadd, 1) := dk_96 (dk_at dksX6_boat_3 8 rfl rfl)
theorem dX6_boat_80 : decode cX6_boat 80 = .ok (.iaload, 1) := dk_46 (dk_at dksX6_boat_3 9 rfl rfl)
theorem dX6_boat_81 : decode cX6_boat 81 = .ok (.iastore, 1) := dk_79 (dk_at dksX6_boat_3 10 rfl rfl)
theorem dX6_boat_82 : decode cX6_boat 82 = .ok (.iinc 3 1, 3) := dk_132 3 1 (dk_at dksX6_boat_3 11 rfl rfl)
theorem dX6_boat_85 : decode cX6_boat 85 = .ok (.goto (-26), 3) := dk_167 255 230 (dk_at dksX6_boat_3 14 rfl rfl)
theorem dX6_boat_88 : decode cX6_boat 88 = .ok (.iconst 0, 1) := dk_3 (dk_at dksX6_boat_3 17 rfl rfl)
theorem dX6_boat_89 : decode cX6_boat 89 = .ok (.istore_n 3, 1) := dk_62 (dk_at dksX6_boat_3 18 rfl rfl)
theorem dX6_boat_90 : decode cX6_boat 90 = .ok (.iload_n 3, 1) := dk_29 (dk_at dksX6_boat_3 19 rfl rfl)
theorem dX6_boat_91 : decode cX6_boat 91 = .ok (.bipush 14, 2) := dk_16 14 (dk_at dksX6_boat_3 20 rfl rfl)
theorem dX6_boat_93 : decode cX6_boat 93 = .ok (.if_icmp .ge 24, 3) := dk_162 0 24 (dk_at dksX6_boat_4 0 rfl rfl)
theorem dX6_boat_96 : decode cX6_boat 96 = .ok (.aload_n 0, 1) := dk_42 (dk_at dksX6_boat_4 3 rfl rfl)
theorem dX6_boat_97 : decode cX6_boat 97 = .ok (.getfield 13, 3) := dk_180 0 13 (dk_at dksX6_boat_4 4 rfl rfl)
theorem dX6_boat_100 : decode cX6_boat 100 = .ok (.iload_n 3, 1) := dk_29 (dk_at dksX6_boat_4 7 rfl rfl)
theorem dX6_boat_101 : decode cX6_boat 101 = .ok (.aload_n 0, 1) := dk_42 (dk_at dksX6_boat_4 8 rfl rfl)
theorem dX6_boat_102 : decode cX6_boat 102 = .ok (.getfield 13, 3) := dk_180 0 13 (dk_at dksX6_boat_4 9 rfl rfl)
theorem dX6_boat_105 : decode cX6_boat 105 = .ok (.bipush 56, 2) := dk_16 56 (dk_at dksX6_boat_4 12 rfl rfl)
theorem dX6_boat_107 : decode cX6_boat 107 = .ok (.iload_n 3, 1) := dk_29 (dk_at dksX6_boat_4 14 rfl rfl)
theorem dX6_boat_108 : decode cX6_boat 108 = .ok (.iadd, 1) := dk_96 (dk_at dksX6_boat_4 15 rfl rfl)
theorem dX6_boat_109 : decode cX6_boat 109 = .ok (.laload, 1) := dk_47 (dk_at dksX6_boat_4 16 rfl rfl)
theorem dX6_boat_110 : decode cX6_boat 110 = .ok (.lastore, 1) := dk_80 (dk_at dksX6_boat_4 17 rfl rfl)
theorem dX6_boat_111 : decode cX6_boat 111 = .ok (.iinc 3 1, 3) := dk_132 3 1 (dk_at dksX6_boat_4 18 rfl rfl)
theorem dX6_boat_114 : decode cX6_boat 114 = .ok (.goto (-24), 3) := dk_167 255 232 (dk_at dksX6_boat_4 21 rfl rfl)
theorem dX6_boat_117 : decode cX6_boat 117 = .ok (.aload_n 0, 1) := dk_42 (dk_at dksX6_boat_5 0 rfl rfl)
theorem dX6_boat_118 : decode cX6_boat 118 = .ok (.aload_n 0, 1) := dk_42 (dk_at dksX6_boat_5 1 rfl rfl)
theorem dX6_boat_119 : decode cX6_boat 119 = .ok (.getfield 7, 3) := dk_180 0 7 (dk_at dksX6_boat_5 2 rfl rfl)
theorem dX6_boat_122 : decode cX6_boat 122 = .ok (.iconst 1, 1) := dk_4 (dk_at dksX6_boat_5 5 rfl rfl)
theorem dX6_boat_123 : decode cX6_boat 123 = .ok (.iaload, 1) := dk_46 (dk_at dksX6_boat_5 6 rfl rfl)
theorem dX6_boat_124 : decode cX6_boat 124 = .ok (.invokevirtual 229, 3) := dk_182 0 229 (dk_at dksX6_boat_5 7 rfl rfl)
theorem dX6_boat_127 : decode cX6_boat 127 = .ok (.ireturn, 1) := dk_172 (dk_at dksX6_boat_5 10 rfl rfl)
abbrev cX6_begins : ByteArray := prog_15_method_28_code
def yX6_begins : MethodName := ⟨RX6, "begins", "(II)Z"⟩
def dkwX6_begins_3 : List UInt8 := [3, 181, 0, 151, 42, 182, 0, 154, 4, 172]
abbrev dktX6_begins_3 : List UInt8 := dkwX6_begins_3 ++ []
def dkwX6_begins_2 : List UInt8 := [167, 255, 236, 42, 3, 181, 0, 102, 42, 3, 181, 0, 148, 42, 2, 181, 0, 41, 42, 3, 181, 0, 111, 42]
abbrev dktX6_begins_2 : List UInt8 := dkwX6_begins_2 ++ dktX6_begins_3
def dkwX6_begins_1 : List UInt8 := [3, 62, 29, 27, 162, 0, 21, 42, 180, 0, 34, 29, 42, 180, 0, 30, 29, 51, 84, 132, 3, 1]
abbrev dktX6_begins_1 : List UInt8 := dkwX6_begins_1 ++ dktX6_begins_2
def dkwX6_begins_0 : List UInt8 := [27, 155, 0, 16, 27, 42, 180, 0, 102, 163, 0, 8, 27, 28, 164, 0, 5, 3, 172, 42, 27, 181, 0, 108]
abbrev dktX6_begins_0 : List UInt8 := dkwX6_begins_0 ++ dktX6_begins_1
theorem dksX6_begins_0 : cX6_begins.data.toList.drop 0 = dktX6_begins_0 := by decide +kernel
theorem dksX6_begins_1 : cX6_begins.data.toList.drop 24 = dktX6_begins_1 := dk_seg dksX6_begins_0 24 rfl rfl
theorem dksX6_begins_2 : cX6_begins.data.toList.drop 46 = dktX6_begins_2 := dk_seg dksX6_begins_1 22 rfl rfl
theorem dksX6_begins_3 : cX6_begins.data.toList.drop 70 = dktX6_begins_3 := dk_seg dksX6_begins_2 24 rfl rfl
theorem dX6_begins_0 : decode cX6_begins 0 = .ok (.iload_n 1, 1) := dk_27 (dk_at dksX6_begins_0 0 rfl rfl)
theorem dX6_begins_1 : decode cX6_begins 1 = .ok (.ifCond .lt 16, 3) := dk_155 0 16 (dk_at dksX6_begins_0 1 rfl rfl)
theorem dX6_begins_4 : decode cX6_begins 4 = .ok (.iload_n 1, 1) := dk_27 (dk_at dksX6_begins_0 4 rfl rfl)
theorem dX6_begins_5 : decode cX6_begins 5 = .ok (.aload_n 0, 1) := dk_42 (dk_at dksX6_begins_0 5 rfl rfl)
theorem dX6_begins_6 : decode cX6_begins 6 = .ok (.getfield 102, 3) := dk_180 0 102 (dk_at dksX6_begins_0 6 rfl rfl)
theorem dX6_begins_9 : decode cX6_begins 9 = .ok (.if_icmp .gt 8, 3) := dk_163 0 8 (dk_at dksX6_begins_0 9 rfl rfl)
theorem dX6_begins_12 : decode cX6_begins 12 = .ok (.iload_n 1, 1) := dk_27 (dk_at dksX6_begins_0 12 rfl rfl)
theorem dX6_begins_13 : decode cX6_begins 13 = .ok (.iload_n 2, 1) := dk_28 (dk_at dksX6_begins_0 13 rfl rfl)
theorem dX6_begins_14 : decode cX6_begins 14 = .ok (.if_icmp .le 5, 3) := dk_164 0 5 (dk_at dksX6_begins_0 14 rfl rfl)
theorem dX6_begins_17 : decode cX6_begins 17 = .ok (.iconst 0, 1) := dk_3 (dk_at dksX6_begins_0 17 rfl rfl)
theorem dX6_begins_18 : decode cX6_begins 18 = .ok (.ireturn, 1) := dk_172 (dk_at dksX6_begins_0 18 rfl rfl)
theorem dX6_begins_19 : decode cX6_begins 19 = .ok (.aload_n 0, 1) := dk_42 (dk_at dksX6_begins_0 19 rfl rfl)
theorem dX6_begins_20 : decode cX6_begins 20 = .ok (.iload_n 1, 1) := dk_27 (dk_at dksX6_begins_0 20 rfl rfl)
theorem dX6_begins_21 : decode cX6_begins 21 = .ok (.putfield 108, 3) := dk_181 0 108 (dk_at dksX6_begins_0 21 rfl rfl)
theorem dX6_begins_24 : decode cX6_begins 24 = .ok (.iconst 0, 1) := dk_3 (dk_at dksX6_begins_1 0 rfl rfl)
theorem dX6_begins_25 : decode cX6_begins 25 = .ok (.istore_n 3, 1) := dk_62 (dk_at dksX6_begins_1 1 rfl rfl)
theorem dX6_begins_26 : decode cX6_begins 26 = .ok (.iload_n 3, 1) := dk_29 (dk_at dksX6_begins_1 2 rfl rfl)
theorem dX6_begins_27 : decode cX6_begins 27 = .ok (.iload_n 1, 1) := dk_27 (dk_at dksX6_begins_1 3 rfl rfl)
theorem dX6_begins_28 : decode cX6_begins 28 = .ok (.if_icmp .ge 21, 3) := dk_162 0 21 (dk_at dksX6_begins_1 4 rfl rfl)
theorem dX6_begins_31 : decode cX6_begins 31 = .ok (.aload_n 0, 1) := dk_42 (dk_at dksX6_begins_1 7 rfl rfl)
theorem dX6_begins_32 : decode cX6_begins 32 = .ok (.getfield 34, 3) := dk_180 0 34 (dk_at dksX6_begins_1 8 rfl rfl)
theorem dX6_begins_35 : decode cX6_begins 35 = .ok (.iload_n 3, 1) := dk_29 (dk_at dksX6_begins_1 11 rfl rfl)
theorem dX6_begins_36 : decode cX6_begins 36 = .ok (.aload_n 0, 1) := dk_42 (dk_at dksX6_begins_1 12 rfl rfl)
theorem dX6_begins_37 : decode cX6_begins 37 = .ok (.getfield 30, 3) := dk_180 0 30 (dk_at dksX6_begins_1 13 rfl rfl)
theorem dX6_begins_40 : decode cX6_begins 40 = .ok (.iload_n 3, 1) := dk_29 (dk_at dksX6_begins_1 16 rfl rfl)
theorem dX6_begins_41 : decode cX6_begins 41 = .ok (.baload, 1) := dk_51 (dk_at dksX6_begins_1 17 rfl rfl)
theorem dX6_begins_42 : decode cX6_begins 42 = .ok (.bastore, 1) := dk_84 (dk_at dksX6_begins_1 18 rfl rfl)
theorem dX6_begins_43 : decode cX6_begins 43 = .ok (.iinc 3 1, 3) := dk_132 3 1 (dk_at dksX6_begins_1 19 rfl rfl)
theorem dX6_begins_46 : decode cX6_begins 46 = .ok (.goto (-20), 3) := dk_167 255 236 (dk_at dksX6_begins_2 0 rfl rfl)
theorem dX6_begins_49 : decode cX6_begins 49 = .ok (.aload_n 0, 1) := dk_42 (dk_at dksX6_begins_2 3 rfl rfl)
theorem dX6_begins_50 : decode cX6_begins 50 = .ok (.iconst 0, 1) := dk_3 (dk_at dksX6_begins_2 4 rfl rfl)
theorem dX6_begins_51 : decode cX6_begins 51 = .ok (.putfield 102, 3) := dk_181 0 102 (dk_at dksX6_begins_2 5 rfl rfl)
theorem dX6_begins_54 : decode cX6_begins 54 = .ok (.aload_n 0, 1) := dk_42 (dk_at dksX6_begins_2 8 rfl rfl)
theorem dX6_begins_55 : decode cX6_begins 55 = .ok (.iconst 0, 1) := dk_3 (dk_at dksX6_begins_2 9 rfl rfl)
theorem dX6_begins_56 : decode cX6_begins 56 = .ok (.putfield 148, 3) := dk_181 0 148 (dk_at dksX6_begins_2 10 rfl rfl)
theorem dX6_begins_59 : decode cX6_begins 59 = .ok (.aload_n 0, 1) := dk_42 (dk_at dksX6_begins_2 13 rfl rfl)
theorem dX6_begins_60 : decode cX6_begins 60 = .ok (.iconst (-1), 1) := dk_2 (dk_at dksX6_begins_2 14 rfl rfl)
theorem dX6_begins_61 : decode cX6_begins 61 = .ok (.putfield 41, 3) := dk_181 0 41 (dk_at dksX6_begins_2 15 rfl rfl)
theorem dX6_begins_64 : decode cX6_begins 64 = .ok (.aload_n 0, 1) := dk_42 (dk_at dksX6_begins_2 18 rfl rfl)
theorem dX6_begins_65 : decode cX6_begins 65 = .ok (.iconst 0, 1) := dk_3 (dk_at dksX6_begins_2 19 rfl rfl)
theorem dX6_begins_66 : decode cX6_begins 66 = .ok (.putfield 111, 3) := dk_181 0 111 (dk_at dksX6_begins_2 20 rfl rfl)
theorem dX6_begins_69 : decode cX6_begins 69 = .ok (.aload_n 0, 1) := dk_42 (dk_at dksX6_begins_2 23 rfl rfl)
theorem dX6_begins_70 : decode cX6_begins 70 = .ok (.iconst 0, 1) := dk_3 (dk_at dksX6_begins_3 0 rfl rfl)
theorem dX6_begins_71 : decode cX6_begins 71 = .ok (.putfield 151, 3) := dk_181 0 151 (dk_at dksX6_begins_3 1 rfl rfl)
theorem dX6_begins_74 : decode cX6_begins 74 = .ok (.aload_n 0, 1) := dk_42 (dk_at dksX6_begins_3 4 rfl rfl)
theorem dX6_begins_75 : decode cX6_begins 75 = .ok (.invokevirtual 154, 3) := dk_182 0 154 (dk_at dksX6_begins_3 5 rfl rfl)
theorem dX6_begins_78 : decode cX6_begins 78 = .ok (.iconst 1, 1) := dk_4 (dk_at dksX6_begins_3 8 rfl rfl)
theorem dX6_begins_79 : decode cX6_begins 79 = .ok (.ireturn, 1) := dk_172 (dk_at dksX6_begins_3 9 rfl rfl)
abbrev cX6_ahead : ByteArray := prog_15_method_24_code
def yX6_ahead : MethodName := ⟨RX6, "ahead", "()V"⟩
def dkwX6_ahead_10 : List UInt8 := [16, 62, 159, 0, 9, 27, 16, 61, 160, 0, 7, 7, 167, 0, 4, 4, 181, 0, 123, 177]
abbrev dktX6_ahead_10 : List UInt8 := dkwX6_ahead_10 ++ []
def dkwX6_ahead_9 : List UInt8 := [89, 180, 0, 111, 4, 96, 181, 0, 111, 42, 27, 16, 59, 159, 0, 21, 27, 16, 60, 159, 0, 15, 27]
abbrev dktX6_ahead_9 : List UInt8 := dkwX6_ahead_9 ++ dktX6_ahead_10
def dkwX6_ahead_8 : List UInt8 := [180, 0, 111, 42, 180, 0, 117, 100, 7, 164, 0, 7, 4, 167, 0, 4, 6, 181, 0, 123, 167, 0, 46, 42]
abbrev dktX6_ahead_8 : List UInt8 := dkwX6_ahead_8 ++ dktX6_ahead_9
def dkwX6_ahead_7 : List UInt8 := [100, 184, 0, 133, 181, 0, 120, 42, 89, 180, 0, 111, 4, 96, 181, 0, 111, 167, 255, 204, 42, 42]
abbrev dktX6_ahead_7 : List UInt8 := dkwX6_ahead_7 ++ dktX6_ahead_8
def dkwX6_ahead_6 : List UInt8 := [153, 0, 44, 42, 18, 132, 16, 10, 42, 180, 0, 120, 104, 42, 42, 180, 0, 111, 182, 0, 114, 96, 16, 48]
abbrev dktX6_ahead_6 : List UInt8 := dkwX6_ahead_6 ++ dktX6_ahead_7
def dkwX6_ahead_5 : List UInt8 := [184, 0, 129, 153, 0, 88, 42, 3, 181, 0, 120, 42, 42, 180, 0, 111, 182, 0, 114, 184, 0, 129]
abbrev dktX6_ahead_5 : List UInt8 := dkwX6_ahead_5 ++ dktX6_ahead_6
def dkwX6_ahead_4 : List UInt8 := [42, 89, 180, 0, 111, 4, 96, 181, 0, 111, 167, 255, 232, 42, 5, 181, 0, 123, 167, 0, 138, 27]
abbrev dktX6_ahead_4 : List UInt8 := dkwX6_ahead_4 ++ dktX6_ahead_5
def dkwX6_ahead_3 : List UInt8 := [167, 0, 180, 27, 184, 0, 126, 153, 0, 38, 42, 42, 180, 0, 111, 182, 0, 114, 184, 0, 126, 153, 0, 16]
abbrev dktX6_ahead_3 : List UInt8 := dkwX6_ahead_3 ++ dktX6_ahead_4
def dkwX6_ahead_2 : List UInt8 := [42, 42, 180, 0, 111, 182, 0, 114, 60, 42, 27, 181, 0, 120, 27, 2, 160, 0, 11, 42, 3, 181, 0, 123]
abbrev dktX6_ahead_2 : List UInt8 := dkwX6_ahead_2 ++ dktX6_ahead_3
def dkwX6_ahead_1 : List UInt8 := [160, 0, 16, 42, 89, 180, 0, 111, 4, 96, 181, 0, 111, 167, 255, 220, 42, 42, 180, 0, 111, 181, 0, 117]
abbrev dktX6_ahead_1 : List UInt8 := dkwX6_ahead_1 ++ dktX6_ahead_2
def dkwX6_ahead_0 : List UInt8 := [42, 42, 180, 0, 111, 182, 0, 114, 16, 32, 159, 0, 16, 42, 42, 180, 0, 111, 182, 0, 114, 16, 10]
abbrev dktX6_ahead_0 : List UInt8 := dkwX6_ahead_0 ++ dktX6_ahead_1
theorem dksX6_ahead_0 : cX6_ahead.data.toList.drop 0 = dktX6_ahead_0 := by decide +kernel
theorem dksX6_ahead_1 : cX6_ahead.data.toList.drop 23 = dktX6_ahead_1 := dk_seg dksX6_ahead_0 23 rfl rfl
theorem dksX6_ahead_2 : cX6_ahead.data.toList.drop 47 = dktX6_ahead_2 := dk_seg dksX6_ahead_1 24 rfl rfl
theorem dksX6_ahead_3 : cX6_ahead.data.toList.drop 71 = dktX6_ahead_3 := dk_seg dksX6_ahead_2 24 rfl rfl
theorem dksX6_ahead_4 : cX6_ahead.data.toList.drop 95 = dktX6_ahead_4 := dk_seg dksX6_ahead_3 24 rfl rfl
theorem dksX6_ahead_5 : cX6_ahead.data.toList.drop 117 = dktX6_ahead_5 := dk_seg dksX6_ahead_4 22 rfl rfl
theorem dksX6_ahead_6 : cX6_ahead.data.toList.drop 139 = dktX6_ahead_6 := dk_seg dksX6_ahead_5 22 rfl rfl
theorem dksX6_ahead_7 : cX6_ahead.data.toList.drop 163 = dktX6_ahead_7 := dk_seg dksX6_ahead_6 24 rfl rfl
theorem dksX6_ahead_8 : cX6_ahead.data.toList.drop 185 = dktX6_ahead_8 := dk_seg dksX6_ahead_7 22 rfl rfl
theorem dksX6_ahead_9 : cX6_ahead.data.toList.drop 209 = dktX6_ahead_9 := dk_seg dksX6_ahead_8 24 rfl rfl
theorem dksX6_ahead_10 : cX6_ahead.data.toList.drop 232 = dktX6_ahead_10 := dk_seg dksX6_ahead_9 23 rfl rfl
theorem dX6_ahead_0 : decode cX6_ahead 0 = .ok (.aload_n 0, 1) := dk_42 (dk_at dksX6_ahead_0 0 rfl rfl)
theorem dX6_ahead_1 : decode cX6_ahead 1 = .ok (.aload_n 0, 1) := dk_42 (dk_at dksX6_ahead_0 1 rfl rfl)
theorem dX6_ahead_2 : decode cX6_ahead 2 = .ok (.getfield 111, 3) := dk_180 0 111 (dk_at dksX6_ahead_0 2 rfl rfl)
theorem dX6_ahead_5 : decode cX6_ahead 5 = .ok (.invokevirtual 114, 3) := dk_182 0 114 (dk_at dksX6_ahead_0 5 rfl rfl)
theorem dX6_ahead_8 : decode cX6_ahead 8 = .ok (.bipush 32, 2) := dk_16 32 (dk_at dksX6_ahead_0 8 rfl rfl)
theorem dX6_ahead_10 : decode cX6_ahead 10 = .ok (.if_icmp .eq 16, 3) := dk_159 0 16 (dk_at dksX6_ahead_0 10 rfl rfl)
theorem dX6_ahead_13 : decode cX6_ahead 13 = .ok (.aload_n 0, 1) := dk_42 (dk_at dksX6_ahead_0 13 rfl rfl)
theorem dX6_ahead_14 : decode cX6_ahead 14 = .ok (.aload_n 0, 1) := dk_42 (dk_at dksX6_ahead_0 14 rfl rfl)
theorem dX6_ahead_15 : decode cX6_ahead 15 = .ok (.getfield 111, 3) := dk_180 0 111 (dk_at dksX6_ahead_0 15 rfl rfl)
theorem dX6_ahead_18 : decode cX6_ahead 18 = .ok (.invokevirtual 114, 3) := dk_182 0 114 (dk_at dksX6_ahead_0 18 rfl rfl)
theorem dX6_ahead_21 : decode cX6_ahead 21 = .ok (.bipush 10, 2) := dk_16 10 (dk_at dksX6_ahead_0 21 rfl rfl)
theorem dX6_ahead_23 : decode cX6_ahead 23 = .ok (.if_icmp .ne 16, 3) := dk_160 0 16 (dk_at dksX6_ahead_1 0 rfl rfl)
theorem dX6_ahead_26 : decode cX6_ahead 26 = .ok (.aload_n 0, 1) := dk_42 (dk_at dksX6_ahead_1 3 rfl rfl)
theorem dX6_ahead_27 : decode cX6_ahead 27 = .ok (.dup, 1) := dk_89 (dk_at dksX6_ahead_1 4 rfl rfl)
theorem dX6_ahead_28 : decode cX6_ahead 28 = .ok (.getfield 111, 3) := dk_180 0 111 (dk_at dksX6_ahead_1 5 rfl rfl)
theorem dX6_ahead_31 : decode cX6_ahead 31 = .ok (.iconst 1, 1) := dk_4 (dk_at dksX6_ahead_1 8 rfl rfl)
theorem dX6_ahead_32 : decode cX6_ahead 32 = .ok (.iadd, 1) := dk_96 (dk_at dksX6_ahead_1 9 rfl rfl)
theorem dX6_ahead_33 : decode cX6_ahead 33 = .ok (.putfield 111, 3) := dk_181 0 111 (dk_at dksX6_ahead_1 10 rfl rfl)
theorem dX6_ahead_36 : decode cX6_ahead 36 = .ok (.goto (-36), 3) := dk_167 255 220 (dk_at dksX6_ahead_1 13 rfl rfl)
theorem dX6_ahead_39 : decode cX6_ahead 39 = .ok (.aload_n 0, 1) := dk_42 (dk_at dksX6_ahead_1 16 rfl rfl)
theorem dX6_ahead_40 : decode cX6_ahead 40 = .ok (.aload_n 0, 1) := dk_42 (dk_at dksX6_ahead_1 17 rfl rfl)
theorem dX6_ahead_41 : decode cX6_ahead 41 = .ok (.getfield 111, 3) := dk_180 0 111 (dk_at dksX6_ahead_1 18 rfl rfl)
theorem dX6_ahead_44 : decode cX6_ahead 44 = .ok (.putfield 117, 3) := dk_181 0 117 (dk_at dksX6_ahead_1 21 rfl rfl)
theorem dX6_ahead_47 : decode cX6_ahead 47 = .ok (.aload_n 0, 1) := dk_42 (dk_at dksX6_ahead_2 0 rfl rfl)
theorem dX6_ahead_48 : decode cX6_ahead 48 = .ok (.aload_n 0, 1) := dk_42 (dk_at dksX6_ahead_2 1 rfl rfl)
theorem dX6_ahead_49 : decode cX6_ahead 49 = .ok (.getfield 111, 3) := dk_180 0 111 (dk_at dksX6_ahead_2 2 rfl rfl)
theorem dX6_ahead_52 : decode cX6_ahead 52 = .ok (.invokevirtual 114, 3) := dk_182 0 114 (dk_at dksX6_ahead_2 5 rfl rfl)
theorem dX6_ahead_55 : decode cX6_ahead 55 = .ok (.istore_n 1, 1) := dk_60 (dk_at dksX6_ahead_2 8 rfl rfl)
theorem dX6_ahead_56 : decode cX6_ahead 56 = .ok (.aload_n 0, 1) := dk_42 (dk_at dksX6_ahead_2 9 rfl rfl)
theorem dX6_ahead_57 : decode cX6_ahead 57 = .ok (.iload_n 1, 1) := dk_27 (dk_at dksX6_ahead_2 10 rfl rfl)
theorem dX6_ahead_58 : decode cX6_ahead 58 = .ok (.putfield 120, 3) := dk_181 0 120 (dk_at dksX6_ahead_2 11 rfl rfl)
theorem dX6_ahead_61 : decode cX6_ahead 61 = .ok (.iload_n 1, 1) := dk_27 (dk_at dksX6_ahead_2 14 rfl rfl)
theorem dX6_ahead_62 : decode cX6_ahead 62 = .ok (.iconst (-1), 1) := dk_2 (dk_at dksX6_ahead_2 15 rfl rfl)
theorem dX6_ahead_63 : decode cX6_ahead 63 = .ok (.if_icmp .ne 11, 3) := dk_160 0 11 (dk_at dksX6_ahead_2 16 rfl rfl)
theorem dX6_ahead_66 : decode cX6_ahead 66 = .ok (.aload_n 0, 1) := dk_42 (dk_at dksX6_ahead_2 19 rfl rfl)
theorem dX6_ahead_67 : decode cX6_ahead 67 = .ok (.iconst 0, 1) := dk_3 (dk_at dksX6_ahead_2 20 rfl rfl)
theorem dX6_ahead_68 : decode cX6_ahead 68 = .ok (.putfield 123, 3) := dk_181 0 123 (dk_at dksX6_ahead_2 21 rfl rfl)
theorem dX6_ahead_71 : decode cX6_ahead 71 = .ok (.goto 180, 3) := dk_167 0 180 (dk_at dksX6_ahead_3 0 rfl rfl)
theorem dX6_ahead_74 : decode cX6_ahead 74 = .ok (.iload_n 1, 1) := dk_27 (dk_at dksX6_ahead_3 3 rfl rfl)
theorem dX6_ahead_75 : decode cX6_ahead 75 = .ok (.invokestatic 126, 3) := dk_184 0 126 (dk_at dksX6_ahead_3 4 rfl rfl)
theorem dX6_ahead_78 : decode cX6_ahead 78 = .ok (.ifCond .eq 38, 3) := dk_153 0 38 (dk_at dksX6_ahead_3 7 rfl rfl)
theorem dX6_ahead_81 : decode cX6_ahead 81 = .ok (.aload_n 0, 1) := dk_42 (dk_at dksX6_ahead_3 10 rfl rfl)
theorem dX6_ahead_82 : decode cX6_ahead 82 = .ok (.aload_n 0, 1) := dk_42 (dk_at dksX6_ahead_3 11 rfl rfl)
theorem dX6_ahead_83 : decode cX6_ahead 83 = .ok (.getfield 111, 3) := dk_180 0 111 (dk_at dksX6_ahead_3 12 rfl rfl)
theorem dX6_ahead_86 : decode cX6_ahead 86 = .ok (.invokevirtual 114, 3) := dk_182 0 114 (dk_at dksX6_ahead_3 15 rfl rfl)
theorem dX6_ahead_89 : decode cX6_ahead 89 = .ok (.invokestatic 126, 3) := dk_184 0 126 (dk_at dksX6_ahead_3 18 rfl rfl)
theorem dX6_ahead_92 : decode cX6_ahead 92 = .ok (.ifCond .eq 16, 3) := dk_153 0 16 (dk_at dksX6_ahead_3 21 rfl rfl)
theorem dX6_ahead_95 : decode cX6_ahead 95 = .ok (.aload_n 0, 1) := dk_42 (dk_at dksX6_ahead_4 0 rfl rfl)
theorem dX6_ahead_96 : decode cX6_ahead 96 = .ok (.dup, 1) := dk_89 (dk_at dksX6_ahead_4 1 rfl rfl)
theorem dX6_ahead_97 : decode cX6_ahead 97 = .ok (.getfield 111, 3) := dk_180 0 111 (dk_at dksX6_ahead_4 2 rfl rfl)
theorem dX6_ahead_100 : decode cX6_ahead 100 = .ok (.iconst 1, 1) := dk_4 (dk_at dksX6_ahead_4 5 rfl rfl)
theorem dX6_ahead_101 : decode cX6_ahead 101 = .ok (.iadd, 1) := dk_96 (dk_at dksX6_ahead_4 6 rfl rfl)
theorem dX6_ahead_102 : decode cX6_ahead 102 = .ok (.putfield 111, 3) := dk_181 0 111 (dk_at dksX6_ahead_4 7 rfl rfl)
theorem dX6_ahead_105 : decode cX6_ahead 105 = .ok (.goto (-24), 3) := dk_167 255 232 (dk_at dksX6_ahead_4 10 rfl rfl)
theorem dX6_ahead_108 : decode cX6_ahead 108 = .ok (.aload_n 0, 1) := dk_42 (dk_at dksX6_ahead_4 13 rfl rfl)
theorem dX6_ahead_109 : decode cX6_ahead 109 = .ok (.iconst 2, 1) := dk_5 (dk_at dksX6_ahead_4 14 rfl rfl)
theorem dX6_ahead_110 : decode cX6_ahead 110 = .ok (.putfield 123, 3) := dk_181 0 123 (dk_at dksX6_ahead_4 15 rfl rfl)
theorem dX6_ahead_113 : decode cX6_ahead 113 = .ok (.goto 138, 3) := dk_167 0 138 (dk_at dksX6_ahead_4 18 rfl rfl)
theorem dX6_ahead_116 : decode cX6_ahead 116 = .ok (.iload_n 1, 1) := dk_27 (dk_at dksX6_ahead_4 21 rfl rfl)
theorem dX6_ahead_117 : decode cX6_ahead 117 = .ok (.invokestatic 129, 3) := dk_184 0 129 (dk_at dksX6_ahead_5 0 rfl rfl)
theorem dX6_ahead_120 : decode cX6_ahead 120 = .ok (.ifCond .eq 88, 3) := dk_153 0 88 (dk_at dksX6_ahead_5 3 rfl rfl)
theorem dX6_ahead_123 : decode cX6_ahead 123 = .ok (.aload_n 0, 1) := dk_42 (dk_at dksX6_ahead_5 6 rfl rfl)
theorem dX6_ahead_124 : decode cX6_ahead 124 = .ok (.iconst 0, 1) := dk_3 (dk_at dksX6_ahead_5 7 rfl rfl)
theorem dX6_ahead_125 : decode cX6_ahead 125 = .ok (.putfield 120, 3) := dk_181 0 120 (dk_at dksX6_ahead_5 8 rfl rfl)
theorem dX6_ahead_128 : decode cX6_ahead 128 = .ok (.aload_n 0, 1) := dk_42 (dk_at dksX6_ahead_5 11 rfl rfl)
theorem dX6_ahead_129 : decode cX6_ahead 129 = .ok (.aload_n 0, 1) := dk_42 (dk_at dksX6_ahead_5 12 rfl rfl)
theorem dX6_ahead_130 : decode cX6_ahead 130 = .ok (.getfield 111, 3) := dk_180 0 111 (dk_at dksX6_ahead_5 13 rfl rfl)
theorem dX6_ahead_133 : decode cX6_ahead 133 = .ok (.invokevirtual 114, 3) := dk_182 0 114 (dk_at dksX6_ahead_5 16 rfl rfl)
theorem dX6_ahead_136 : decode cX6_ahead 136 = .ok (.invokestatic 129, 3) := dk_184 0 129 (dk_at dksX6_ahead_5 19 rfl rfl)
theorem dX6_ahead_139 : decode cX6_ahead 139 = .ok (.ifCond .eq 44, 3) := dk_153 0 44 (dk_at dksX6_ahead_6 0 rfl rfl)
theorem dX6_ahead_142 : decode cX6_ahead 142 = .ok (.aload_n 0, 1) := dk_42 (dk_at dksX6_ahead_6 3 rfl rfl)
theorem dX6_ahead_143 : decode cX6_ahead 143 = .ok (.ldc 132, 2) := dk_18 132 (dk_at dksX6_ahead_6 4 rfl rfl)
theorem dX6_ahead_145 : decode cX6_ahead 145 = .ok (.bipush 10, 2) := dk_16 10 (dk_at dksX6_ahead_6 6 rfl rfl)
theorem dX6_ahead_147 : decode cX6_ahead 147 = .ok (.aload_n 0, 1) := dk_42 (dk_at dksX6_ahead_6 8 rfl rfl)
theorem dX6_ahead_148 : decode cX6_ahead 148 = .ok (.getfield 120, 3) := dk_180 0 120 (dk_at dksX6_ahead_6 9 rfl rfl)
theorem dX6_ahead_151 : decode cX6_ahead 151 = .ok (.imul, 1) := dk_104 (dk_at dksX6_ahead_6 12 rfl rfl)
theorem dX6_ahead_152 : decode cX6_ahead 152 = .ok (.aload_n 0, 1) := dk_42 (dk_at dksX6_ahead_6 13 rfl rfl)
theorem dX6_ahead_153 : decode cX6_ahead 153 = .ok (.aload_n 0, 1) := dk_42 (dk_at dksX6_ahead_6 14 rfl rfl)
theorem dX6_ahead_154 : decode cX6_ahead 154 = .ok (.getfield 111, 3) := dk_180 0 111 (dk_at dksX6_ahead_6 15 rfl rfl)
theorem dX6_ahead_157 : decode cX6_ahead 157 = .ok (.invokevirtual 114, 3) := dk_182 0 114 (dk_at dksX6_ahead_6 18 rfl rfl)
theorem dX6_ahead_160 : decode cX6_ahead 160 = .ok (.iadd, 1) := dk_96 (dk_at dksX6_ahead_6 21 rfl rfl)
theorem dX6_ahead_161 : decode cX6_ahead 161 = .ok (.bipush 48, 2) := dk_16 48 (dk_at dksX6_ahead_6 22 rfl rfl)
theorem dX6_ahead_163 : decode cX6_ahead 163 = .ok (.isub, 1) := dk_100 (dk_at dksX6_ahead_7 0 rfl rfl)
theorem dX6_ahead_164 : decode cX6_ahead 164 = .ok (.invokestatic 133, 3) := dk_184 0 133 (dk_at dksX6_ahead_7 1 rfl rfl)
theorem dX6_ahead_167 : decode cX6_ahead 167 = .ok (.putfield 120, 3) := dk_181 0 120 (dk_at dksX6_ahead_7 4 rfl rfl)
theorem dX6_ahead_170 : decode cX6_ahead 170 = .ok (.aload_n 0, 1) := dk_42 (dk_at dksX6_ahead_7 7 rfl rfl)
theorem dX6_ahead_171 : decode cX6_ahead 171 = .ok (.dup, 1) := dk_89 (dk_at dksX6_ahead_7 8 rfl rfl)
theorem dX6_ahead_172 : decode cX6_ahead 172 = .ok (.getfield 111, 3) := dk_180 0 111 (dk_at dksX6_ahead_7 9 rfl rfl)
theorem dX6_ahead_175 : decode cX6_ahead 175 = .ok (.iconst 1, 1) := dk_4 (dk_at dksX6_ahead_7 12 rfl rfl)
theorem dX6_ahead_176 : decode cX6_ahead 176 = .ok (.iadd, 1) := dk_96 (dk_at dksX6_ahead_7 13 rfl rfl)
theorem dX6_ahead_177 : decode cX6_ahead 177 = .ok (.putfield 111, 3) := dk_181 0 111 (dk_at dksX6_ahead_7 14 rfl rfl)
theorem dX6_ahead_180 : decode cX6_ahead 180 = .ok (.goto (-52), 3) := dk_167 255 204 (dk_at dksX6_ahead_7 17 rfl rfl)
theorem dX6_ahead_183 : decode cX6_ahead 183 = .ok (.aload_n 0, 1) := dk_42 (dk_at dksX6_ahead_7 20 rfl rfl)
theorem dX6_ahead_184 : decode cX6_ahead 184 = .ok (.aload_n 0, 1) := dk_42 (dk_at dksX6_ahead_7 21 rfl rfl)
theorem dX6_ahead_185 : decode cX6_ahead 185 = .ok (.getfield 111, 3) := dk_180 0 111 (dk_at dksX6_ahead_8 0 rfl rfl)
theorem dX6_ahead_188 : decode cX6_ahead 188 = .ok (.aload_n 0, 1) := dk_42 (dk_at dksX6_ahead_8 3 rfl rfl)
theorem dX6_ahead_189 : decode cX6_ahead 189 = .ok (.getfield 117, 3) := dk_180 0 117 (dk_at dksX6_ahead_8 4 rfl rfl)
theorem dX6_ahead_192 : decode cX6_ahead 192 = .ok (.isub, 1) := dk_100 (dk_at dksX6_ahead_8 7 rfl rfl)
theorem dX6_ahead_193 : decode cX6_ahead 193 = .ok (.iconst 4, 1) := dk_7 (dk_at dksX6_ahead_8 8 rfl rfl)
theorem dX6_ahead_194 : decode cX6_ahead 194 = .ok (.if_icmp .le 7, 3) := dk_164 0 7 (dk_at dksX6_ahead_8 9 rfl rfl)
theorem dX6_ahead_197 : decode cX6_ahead 197 = .ok (.iconst 1, 1) := dk_4 (dk_at dksX6_ahead_8 12 rfl rfl)
theorem dX6_ahead_198 : decode cX6_ahead 198 = .ok (.goto 4, 3) := dk_167 0 4 (dk_at dksX6_ahead_8 13 rfl rfl)
theorem dX6_ahead_201 : decode cX6_ahead 201 = .ok (.iconst 3, 1) := dk_6 (dk_at dksX6_ahead_8 16 rfl rfl)
theorem dX6_ahead_202 : decode cX6_ahead 202 = .ok (.putfield 123, 3) := dk_181 0 123 (dk_at dksX6_ahead_8 17 rfl rfl)
theorem dX6_ahead_205 : decode cX6_ahead 205 = .ok (.goto 46, 3) := dk_167 0 46 (dk_at dksX6_ahead_8 20 rfl rfl)
theorem dX6_ahead_208 : decode cX6_ahead 208 = .ok (.aload_n 0, 1) := dk_42 (dk_at dksX6_ahead_8 23 rfl rfl)
theorem dX6_ahead_209 : decode cX6_ahead 209 = .ok (.dup, 1) := dk_89 (dk_at dksX6_ahead_9 0 rfl rfl)
theorem dX6_ahead_210 : decode cX6_ahead 210 = .ok (.getfield 111, 3) := dk_180 0 111 (dk_at dksX6_ahead_9 1 rfl rfl)
theorem dX6_ahead_213 : decode cX6_ahead 213 = .ok (.iconst 1, 1) := dk_4 (dk_at dksX6_ahead_9 4 rfl rfl)
theorem dX6_ahead_214 : decode cX6_ahead 214 = .ok (.iadd, 1) := dk_96 (dk_at dksX6_ahead_9 5 rfl rfl)
theorem dX6_ahead_215 : decode cX6_ahead 215 = .ok (.putfield 111, 3) := dk_181 0 111 (dk_at dksX6_ahead_9 6 rfl rfl)
theorem dX6_ahead_218 : decode cX6_ahead 218 = .ok (.aload_n 0, 1) := dk_42 (dk_at dksX6_ahead_9 9 rfl rfl)
theorem dX6_ahead_219 : decode cX6_ahead 219 = .ok (.iload_n 1, 1) := dk_27 (dk_at dksX6_ahead_9 10 rfl rfl)
theorem dX6_ahead_220 : decode cX6_ahead 220 = .ok (.bipush 59, 2) := dk_16 59 (dk_at dksX6_ahead_9 11 rfl rfl)
theorem dX6_ahead_222 : decode cX6_ahead 222 = .ok (.if_icmp .eq 21, 3) := dk_159 0 21 (dk_at dksX6_ahead_9 13 rfl rfl)
theorem dX6_ahead_225 : decode cX6_ahead 225 = .ok (.iload_n 1, 1) := dk_27 (dk_at dksX6_ahead_9 16 rfl rfl)
theorem dX6_ahead_226 : decode cX6_ahead 226 = .ok (.bipush 60, 2) := dk_16 60 (dk_at dksX6_ahead_9 17 rfl rfl)
theorem dX6_ahead_228 : decode cX6_ahead 228 = .ok (.if_icmp .eq 15, 3) := dk_159 0 15 (dk_at dksX6_ahead_9 19 rfl rfl)
theorem dX6_ahead_231 : decode cX6_ahead 231 = .ok (.iload_n 1, 1) := dk_27 (dk_at dksX6_ahead_9 22 rfl rfl)
theorem dX6_ahead_232 : decode cX6_ahead 232 = .ok (.bipush 62, 2) := dk_16 62 (dk_at dksX6_ahead_10 0 rfl rfl)
theorem dX6_ahead_234 : decode cX6_ahead 234 = .ok (.if_icmp .eq 9, 3) := dk_159 0 9 (dk_at dksX6_ahead_10 2 rfl rfl)
theorem dX6_ahead_237 : decode cX6_ahead 237 = .ok (.iload_n 1, 1) := dk_27 (dk_at dksX6_ahead_10 5 rfl rfl)
theorem dX6_ahead_238 : decode cX6_ahead 238 = .ok (.bipush 61, 2) := dk_16 61 (dk_at dksX6_ahead_10 6 rfl rfl)
theorem dX6_ahead_240 : decode cX6_ahead 240 = .ok (.if_icmp .ne 7, 3) := dk_160 0 7 (dk_at dksX6_ahead_10 8 rfl rfl)
theorem dX6_ahead_243 : decode cX6_ahead 243 = .ok (.iconst 4, 1) := dk_7 (dk_at dksX6_ahead_10 11 rfl rfl)
theorem dX6_ahead_244 : decode cX6_ahead 244 = .ok (.goto 4, 3) := dk_167 0 4 (dk_at dksX6_ahead_10 12 rfl rfl)
theorem dX6_ahead_247 : decode cX6_ahead 247 = .ok (.iconst 1, 1) := dk_4 (dk_at dksX6_ahead_10 15 rfl rfl)
theorem dX6_ahead_248 : decode cX6_ahead 248 = .ok (.putfield 123, 3) := dk_181 0 123 (dk_at dksX6_ahead_10 16 rfl rfl)
theorem dX6_ahead_251 : decode cX6_ahead 251 = .ok (.return_, 1) := dk_177 (dk_at dksX6_ahead_10 19 rfl rfl)
abbrev cX6_byteAt : ByteArray := prog_15_method_21_code
def yX6_byteAt : MethodName := ⟨RX6, "byteAt", "(I)I"⟩
def dkwX6_byteAt_0 : List UInt8 := [27, 42, 180, 0, 108, 162, 0, 16, 42, 180, 0, 34, 27, 51, 17, 0, 255, 126, 167, 0, 4, 2, 172]
abbrev dktX6_byteAt_0 : List UInt8 := dkwX6_byteAt_0 ++ []
theorem dksX6_byteAt_0 : cX6_byteAt.data.toList.drop 0 = dktX6_byteAt_0 := by decide +kernel
theorem dX6_byteAt_0 : decode cX6_byteAt 0 = .ok (.iload_n 1, 1) := dk_27 (dk_at dksX6_byteAt_0 0 rfl rfl)
theorem dX6_byteAt_1 : decode cX6_byteAt 1 = .ok (.aload_n 0, 1) := dk_42 (dk_at dksX6_byteAt_0 1 rfl rfl)
theorem dX6_byteAt_2 : decode cX6_byteAt 2 = .ok (.getfield 108, 3) := dk_180 0 108 (dk_at dksX6_byteAt_0 2 rfl rfl)
theorem dX6_byteAt_5 : decode cX6_byteAt 5 = .ok (.if_icmp .ge 16, 3) := dk_162 0 16 (dk_at dksX6_byteAt_0 5 rfl rfl)
theorem dX6_byteAt_8 : decode cX6_byteAt 8 = .ok (.aload_n 0, 1) := dk_42 (dk_at dksX6_byteAt_0 8 rfl rfl)
theorem dX6_byteAt_9 : decode cX6_byteAt 9 = .ok (.getfield 34, 3) := dk_180 0 34 (dk_at dksX6_byteAt_0 9 rfl rfl)
theorem dX6_byteAt_12 : decode cX6_byteAt 12 = .ok (.iload_n 1, 1) := dk_27 (dk_at dksX6_byteAt_0 12 rfl rfl)
theorem dX6_byteAt_13 : decode cX6_byteAt 13 = .ok (.baload, 1) := dk_51 (dk_at dksX6_byteAt_0 13 rfl rfl)
theorem dX6_byteAt_14 : decode cX6_byteAt 14 = .ok (.sipush 255, 3) := dk_17 0 255 (dk_at dksX6_byteAt_0 14 rfl rfl)
theorem dX6_byteAt_17 : decode cX6_byteAt 17 = .ok (.iand, 1) := dk_126 (dk_at dksX6_byteAt_0 17 rfl rfl)
theorem dX6_byteAt_18 : decode cX6_byteAt 18 = .ok (.goto 4, 3) := dk_167 0 4 (dk_at dksX6_byteAt_0 18 rfl rfl)
theorem dX6_byteAt_21 : decode cX6_byteAt 21 = .ok (.iconst (-1), 1) := dk_2 (dk_at dksX6_byteAt_0 21 rfl rfl)
theorem dX6_byteAt_22 : decode cX6_byteAt 22 = .ok (.ireturn, 1) := dk_172 (dk_at dksX6_byteAt_0 22 rfl rfl)
abbrev cX6_isSmall : ByteArray := prog_15_method_22_code
def yX6_isSmall : MethodName := ⟨RX6, "isSmall", "(I)Z"⟩
def dkwX6_isSmall_0 : List UInt8 := [26, 16, 97, 161, 0, 13, 26, 16, 122, 163, 0, 7, 4, 167, 0, 4, 3, 172]
abbrev dktX6_isSmall_0 : List UInt8 := dkwX6_isSmall_0 ++ []
theorem dksX6_isSmall_0 : cX6_isSmall.data.toList.drop 0 = dktX6_isSmall_0 := by decide +kernel
theorem dX6_isSmall_0 : decode cX6_isSmall 0 = .ok (.iload_n 0, 1) := dk_26 (dk_at dksX6_isSmall_0 0 rfl rfl)
theorem dX6_isSmall_1 : decode cX6_isSmall 1 = .ok (.bipush 97, 2) := dk_16 97 (dk_at dksX6_isSmall_0 1 rfl rfl)
theorem dX6_isSmall_3 : decode cX6_isSmall 3 = .ok (.if_icmp .lt 13, 3) := dk_161 0 13 (dk_at dksX6_isSmall_0 3 rfl rfl)
theorem dX6_isSmall_6 : decode cX6_isSmall 6 = .ok (.iload_n 0, 1) := dk_26 (dk_at dksX6_isSmall_0 6 rfl rfl)
theorem dX6_isSmall_7 : decode cX6_isSmall 7 = .ok (.bipush 122, 2) := dk_16 122 (dk_at dksX6_isSmall_0 7 rfl rfl)
theorem dX6_isSmall_9 : decode cX6_isSmall 9 = .ok (.if_icmp .gt 7, 3) := dk_163 0 7 (dk_at dksX6_isSmall_0 9 rfl rfl)
theorem dX6_isSmall_12 : decode cX6_isSmall 12 = .ok (.iconst 1, 1) := dk_4 (dk_at dksX6_isSmall_0 12 rfl rfl)
theorem dX6_isSmall_13 : decode cX6_isSmall 13 = .ok (.goto 4, 3) := dk_167 0 4 (dk_at dksX6_isSmall_0 13 rfl rfl)
theorem dX6_isSmall_16 : decode cX6_isSmall 16 = .ok (.iconst 0, 1) := dk_3 (dk_at dksX6_isSmall_0 16 rfl rfl)
theorem dX6_isSmall_17 : decode cX6_isSmall 17 = .ok (.ireturn, 1) := dk_172 (dk_at dksX6_isSmall_0 17 rfl rfl)
abbrev cX6_isDigit : ByteArray := prog_15_method_23_code
def yX6_isDigit : MethodName := ⟨RX6, "isDigit", "(I)Z"⟩
def dkwX6_isDigit_0 : List UInt8 := [26, 16, 48, 161, 0, 13, 26, 16, 57, 163, 0, 7, 4, 167, 0, 4, 3, 172]
abbrev dktX6_isDigit_0 : List UInt8 := dkwX6_isDigit_0 ++ []
theorem dksX6_isDigit_0 : cX6_isDigit.data.toList.drop 0 = dktX6_isDigit_0 := by decide +kernel
theorem dX6_isDigit_0 : decode cX6_isDigit 0 = .ok (.iload_n 0, 1) := dk_26 (dk_at dksX6_isDigit_0 0 rfl rfl)
theorem dX6_isDigit_1 : decode cX6_isDigit 1 = .ok (.bipush 48, 2) := dk_16 48 (dk_at dksX6_isDigit_0 1 rfl rfl)
theorem dX6_isDigit_3 : decode cX6_isDigit 3 = .ok (.if_icmp .lt 13, 3) := dk_161 0 13 (dk_at dksX6_isDigit_0 3 rfl rfl)
theorem dX6_isDigit_6 : decode cX6_isDigit 6 = .ok (.iload_n 0, 1) := dk_26 (dk_at dksX6_isDigit_0 6 rfl rfl)
theorem dX6_isDigit_7 : decode cX6_isDigit 7 = .ok (.bipush 57, 2) := dk_16 57 (dk_at dksX6_isDigit_0 7 rfl rfl)
theorem dX6_isDigit_9 : decode cX6_isDigit 9 = .ok (.if_icmp .gt 7, 3) := dk_163 0 7 (dk_at dksX6_isDigit_0 9 rfl rfl)
theorem dX6_isDigit_12 : decode cX6_isDigit 12 = .ok (.iconst 1, 1) := dk_4 (dk_at dksX6_isDigit_0 12 rfl rfl)
theorem dX6_isDigit_13 : decode cX6_isDigit 13 = .ok (.goto 4, 3) := dk_167 0 4 (dk_at dksX6_isDigit_0 13 rfl rfl)
theorem dX6_isDigit_16 : decode cX6_isDigit 16 = .ok (.iconst 0, 1) := dk_3 (dk_at dksX6_isDigit_0 16 rfl rfl)
theorem dX6_isDigit_17 : decode cX6_isDigit 17 = .ok (.ireturn, 1) := dk_172 (dk_at dksX6_isDigit_0 17 rfl rfl)
abbrev cX6_refuse : ByteArray := prog_15_method_7_code
def yX6_refuse : MethodName := ⟨RX6, "refuse", "(I)I"⟩
def dkwX6_refuse_0 : List UInt8 := [42, 27, 181, 0, 72, 2, 172]
abbrev dktX6_refuse_0 : List UInt8 := dkwX6_refuse_0 ++ []
theorem dksX6_refuse_0 : cX6_refuse.data.toList.drop 0 = dktX6_refuse_0 := by decide +kernel
theorem dX6_refuse_0 : decode cX6_refuse 0 = .ok (.aload_n 0, 1) := dk_42 (dk_at dksX6_refuse_0 0 rfl rfl)
theorem dX6_refuse_1 : decode cX6_refuse 1 = .ok (.iload_n 1, 1) := dk_27 (dk_at dksX6_refuse_0 1 rfl rfl)
theorem dX6_refuse_2 : decode cX6_refuse 2 = .ok (.putfield 72, 3) := dk_181 0 72 (dk_at dksX6_refuse_0 2 rfl rfl)
theorem dX6_refuse_5 : decode cX6_refuse 5 = .ok (.iconst (-1), 1) := dk_2 (dk_at dksX6_refuse_0 5 rfl rfl)
theorem dX6_refuse_6 : decode cX6_refuse 6 = .ok (.ireturn, 1) := dk_172 (dk_at dksX6_refuse_0 6 rfl rfl)
abbrev cX6_boatPart : ByteArray := prog_15_method_46_code
def yX6_boatPart : MethodName := ⟨RX6, "boatPart", "()Z"⟩
def dkwX6_boatPart_7 : List UInt8 := [182, 0, 219, 153, 0, 7, 4, 167, 0, 4, 3, 172]
abbrev dktX6_boatPart_7 : List UInt8 := dkwX6_boatPart_7 ++ []
def dkwX6_boatPart_6 : List UInt8 := [167, 0, 16, 42, 182, 0, 213, 61, 167, 0, 8, 42, 182, 0, 216, 61, 28, 153, 0, 16, 42, 16, 59]
abbrev dktX6_boatPart_6 : List UInt8 := dkwX6_boatPart_6 ++ dktX6_boatPart_7
def dkwX6_boatPart_5 : List UInt8 := [167, 0, 38, 42, 17, 6, 132, 3, 16, 16, 182, 0, 188, 61, 167, 0, 24, 42, 182, 0, 209, 61]
abbrev dktX6_boatPart_5 : List UInt8 := dkwX6_boatPart_5 ++ dktX6_boatPart_6
def dkwX6_boatPart_4 : List UInt8 := [42, 17, 6, 130, 4, 16, 9, 182, 0, 188, 61, 167, 0, 51, 42, 17, 6, 131, 3, 6, 182, 0, 188, 61]
abbrev dktX6_boatPart_4 : List UInt8 := dkwX6_boatPart_4 ++ dktX6_boatPart_5
def dkwX6_boatPart_3 : List UInt8 := [170, 0, 0, 0, 90, 0, 0, 0, 0, 0, 0, 0, 4, 0, 0, 0, 33, 0, 0, 0, 47, 0, 0, 0, 60, 0, 0, 0, 74, 0, 0, 0, 82]
abbrev dktX6_boatPart_3 : List UInt8 := dkwX6_boatPart_3 ++ dktX6_boatPart_4
def dkwX6_boatPart_2 : List UInt8 := [180, 0, 206, 4, 27, 120, 128, 181, 0, 206, 27, 5, 163, 0, 7, 42, 182, 0, 154, 27]
abbrev dktX6_boatPart_2 : List UInt8 := dkwX6_boatPart_2 ++ dktX6_boatPart_3
def dkwX6_boatPart_1 : List UInt8 := [163, 0, 21, 42, 180, 0, 206, 27, 122, 4, 126, 4, 160, 0, 9, 42, 8, 182, 0, 160, 172, 42, 89]
abbrev dktX6_boatPart_1 : List UInt8 := dkwX6_boatPart_1 ++ dktX6_boatPart_2
def dkwX6_boatPart_0 : List UInt8 := [42, 18, 171, 182, 0, 163, 60, 27, 155, 0, 8, 27, 8, 164, 0, 9, 42, 5, 182, 0, 160, 172, 27, 5]
abbrev dktX6_boatPart_0 : List UInt8 := dkwX6_boatPart_0 ++ dktX6_boatPart_1
theorem dksX6_boatPart_0 : cX6_boatPart.data.toList.drop 0 = dktX6_boatPart_0 := by decide +kernel
theorem dksX6_boatPart_1 : cX6_boatPart.data.toList.drop 24 = dktX6_boatPart_1 := dk_seg dksX6_boatPart_0 24 rfl rfl
theorem dksX6_boatPart_2 : cX6_boatPart.data.toList.drop 47 = dktX6_boatPart_2 := dk_seg dksX6_boatPart_1 23 rfl rfl
theorem dksX6_boatPart_3 : cX6_boatPart.data.toList.drop 67 = dktX6_boatPart_3 := dk_seg dksX6_boatPart_2 20 rfl rfl
theorem dksX6_boatPart_4 : cX6_boatPart.data.toList.drop 100 = dktX6_boatPart_4 := dk_seg dksX6_boatPart_3 33 rfl rfl
theorem dksX6_boatPart_5 : cX6_boatPart.data.toList.drop 124 = dktX6_boatPart_5 := dk_seg dksX6_boatPart_4 24 rfl rfl
theorem dksX6_boatPart_6 : cX6_boatPart.data.toList.drop 146 = dktX6_boatPart_6 := dk_seg dksX6_boatPart_5 22 rfl rfl
theorem dksX6_boatPart_7 : cX6_boatPart.data.toList.drop 169 = dktX6_boatPart_7 := dk_seg dksX6_boatPart_6 23 rfl rfl
theorem dX6_boatPart_0 : decode cX6_boatPart 0 = .ok (.aload_n 0, 1) := dk_42 (dk_at dksX6_boatPart_0 0 rfl rfl)
theorem dX6_boatPart_1 : decode cX6_boatPart 1 = .ok (.ldc 171, 2) := dk_18 171 (dk_at dksX6_boatPart_0 1 rfl rfl)
theorem dX6_boatPart_3 : decode cX6_boatPart 3 = .ok (.invokevirtual 163, 3) := dk_182 0 163 (dk_at dksX6_boatPart_0 3 rfl rfl)
theorem dX6_boatPart_6 : decode cX6_boatPart 6 = .ok (.istore_n 1, 1) := dk_60 (dk_at dksX6_boatPart_0 6 rfl rfl)
theorem dX6_boatPart_7 : decode cX6_boatPart 7 = .ok (.iload_n 1, 1) := dk_27 (dk_at dksX6_boatPart_0 7 rfl rfl)
theorem dX6_boatPart_8 : decode cX6_boatPart 8 = .ok (.ifCond .lt 8, 3) := dk_155 0 8 (dk_at dksX6_boatPart_0 8 rfl rfl)
theorem dX6_boatPart_11 : decode cX6_boatPart 11 = .ok (.iload_n 1, 1) := dk_27 (dk_at dksX6_boatPart_0 11 rfl rfl)
theorem dX6_boatPart_12 : decode cX6_boatPart 12 = .ok (.iconst 5, 1) := dk_8 (dk_at dksX6_boatPart_0 12 rfl rfl)
theorem dX6_boatPart_13 : decode cX6_boatPart 13 = .ok (.if_icmp .le 9, 3) := dk_164 0 9 (dk_at dksX6_boatPart_0 13 rfl rfl)
theorem dX6_boatPart_16 : decode cX6_boatPart 16 = .ok (.aload_n 0, 1) := dk_42 (dk_at dksX6_boatPart_0 16 rfl rfl)
theorem dX6_boatPart_17 : decode cX6_boatPart 17 = .ok (.iconst 2, 1) := dk_5 (dk_at dksX6_boatPart_0 17 rfl rfl)
theorem dX6_boatPart_18 : decode cX6_boatPart 18 = .ok (.invokevirtual 160, 3) := dk_182 0 160 (dk_at dksX6_boatPart_0 18 rfl rfl)
theorem dX6_boatPart_21 : decode cX6_boatPart 21 = .ok (.ireturn, 1) := dk_172 (dk_at dksX6_boatPart_0 21 rfl rfl)
theorem dX6_boatPart_22 : decode cX6_boatPart 22 = .ok (.iload_n 1, 1) := dk_27 (dk_at dksX6_boatPart_0 22 rfl rfl)
theorem dX6_boatPart_23 : decode cX6_boatPart 23 = .ok (.iconst 2, 1) := dk_5 (dk_at dksX6_boatPart_0 23 rfl rfl)
theorem dX6_boatPart_24 : decode cX6_boatPart 24 = .ok (.if_icmp .gt 21, 3) := dk_163 0 21 (dk_at dksX6_boatPart_1 0 rfl rfl)
theorem dX6_boatPart_27 : decode cX6_boatPart 27 = .ok (.aload_n 0, 1) := dk_42 (dk_at dksX6_boatPart_1 3 rfl rfl)
theorem dX6_boatPart_28 : decode cX6_boatPart 28 = .ok (.getfield 206, 3) := dk_180 0 206 (dk_at dksX6_boatPart_1 4 rfl rfl)
theorem dX6_boatPart_31 : decode cX6_boatPart 31 = .ok (.iload_n 1, 1) := dk_27 (dk_at dksX6_boatPart_1 7 rfl rfl)
theorem dX6_boatPart_32 : decode cX6_boatPart 32 = .ok (.ishr, 1) := dk_122 (dk_at dksX6_boatPart_1 8 rfl rfl)
theorem dX6_boatPart_33 : decode cX6_boatPart 33 = .ok (.iconst 1, 1) := dk_4 (dk_at dksX6_boatPart_1 9 rfl rfl)
theorem dX6_boatPart_34 : decode cX6_boatPart 34 = .ok (.iand, 1) := dk_126 (dk_at dksX6_boatPart_1 10 rfl rfl)
theorem dX6_boatPart_35 : decode cX6_boatPart 35 = .ok (.iconst 1, 1) := dk_4 (dk_at dksX6_boatPart_1 11 rfl rfl)
theorem dX6_boatPart_36 : decode cX6_boatPart 36 = .ok (.if_icmp .ne 9, 3) := dk_160 0 9 (dk_at dksX6_boatPart_1 12 rfl rfl)
theorem dX6_boatPart_39 : decode cX6_boatPart 39 = .ok (.aload_n 0, 1) := dk_42 (dk_at dksX6_boatPart_1 15 rfl rfl)
theorem dX6_boatPart_40 : decode cX6_boatPart 40 = .ok (.iconst 5, 1) := dk_8 (dk_at dksX6_boatPart_1 16 rfl rfl)
theorem dX6_boatPart_41 : decode cX6_boatPart 41 = .ok (.invokevirtual 160, 3) := dk_182 0 160 (dk_at dksX6_boatPart_1 17 rfl rfl)
theorem dX6_boatPart_44 : decode cX6_boatPart 44 = .ok (.ireturn, 1) := dk_172 (dk_at dksX6_boatPart_1 20 rfl rfl)
theorem dX6_boatPart_45 : decode cX6_boatPart 45 = .ok (.aload_n 0, 1) := dk_42 (dk_at dksX6_boatPart_1 21 rfl rfl)
theorem dX6_boatPart_46 : decode cX6_boatPart 46 = .ok (.dup, 1) := dk_89 (dk_at dksX6_boatPart_1 22 rfl rfl)
theorem dX6_boatPart_47 : decode cX6_boatPart 47 = .ok (.getfield 206, 3) := dk_180 0 206 (dk_at dksX6_boatPart_2 0 rfl rfl)
theorem dX6_boatPart_50 : decode cX6_boatPart 50 = .ok (.iconst 1, 1) := dk_4 (dk_at dksX6_boatPart_2 3 rfl rfl)
theorem dX6_boatPart_51 : decode cX6_boatPart 51 = .ok (.iload_n 1, 1) := dk_27 (dk_at dksX6_boatPart_2 4 rfl rfl)
theorem dX6_boatPart_52 : decode cX6_boatPart 52 = .ok (.ishl, 1) := dk_120 (dk_at dksX6_boatPart_2 5 rfl rfl)
theorem dX6_boatPart_53 : decode cX6_boatPart 53 = .ok (.ior, 1) := dk_128 (dk_at dksX6_boatPart_2 6 rfl rfl)
theorem dX6_boatPart_54 : decode cX6_boatPart 54 = .ok (.putfield 206, 3) := dk_181 0 206 (dk_at dksX6_boatPart_2 7 rfl rfl)
theorem dX6_boatPart_57 : decode cX6_boatPart 57 = .ok (.iload_n 1, 1) := dk_27 (dk_at dksX6_boatPart_2 10 rfl rfl)
theorem dX6_boatPart_58 : decode cX6_boatPart 58 = .ok (.iconst 2, 1) := dk_5 (dk_at dksX6_boatPart_2 11 rfl rfl)
theorem dX6_boatPart_59 : decode cX6_boatPart 59 = .ok (.if_icmp .gt 7, 3) := dk_163 0 7 (dk_at dksX6_boatPart_2 12 rfl rfl)
theorem dX6_boatPart_62 : decode cX6_boatPart 62 = .ok (.aload_n 0, 1) := dk_42 (dk_at dksX6_boatPart_2 15 rfl rfl)
theorem dX6_boatPart_63 : decode cX6_boatPart 63 = .ok (.invokevirtual 154, 3) := dk_182 0 154 (dk_at dksX6_boatPart_2 16 rfl rfl)
theorem dX6_boatPart_66 : decode cX6_boatPart 66 = .ok (.iload_n 1, 1) := dk_27 (dk_at dksX6_boatPart_2 19 rfl rfl)
theorem dX6_boatPart_67 : decode cX6_boatPart 67 = .ok (.tableswitch 90 0 4 #[33, 47, 60, 74, 82], 33) := by decide +kernel
theorem dX6_boatPart_100 : decode cX6_boatPart 100 = .ok (.aload_n 0, 1) := dk_42 (dk_at dksX6_boatPart_4 0 rfl rfl)
theorem dX6_boatPart_101 : decode cX6_boatPart 101 = .ok (.sipush 1666, 3) := dk_17 6 130 (dk_at dksX6_boatPart_4 1 rfl rfl)
theorem dX6_boatPart_104 : decode cX6_boatPart 104 = .ok (.iconst 1, 1) := dk_4 (dk_at dksX6_boatPart_4 4 rfl rfl)
theorem dX6_boatPart_105 : decode cX6_boatPart 105 = .ok (.bipush 9, 2) := dk_16 9 (dk_at dksX6_boatPart_4 5 rfl rfl)
theorem dX6_boatPart_107 : decode cX6_boatPart 107 = .ok (.invokevirtual 188, 3) := dk_182 0 188 (dk_at dksX6_boatPart_4 7 rfl rfl)
theorem dX6_boatPart_110 : decode cX6_boatPart 110 = .ok (.istore_n 2, 1) := dk_61 (dk_at dksX6_boatPart_4 10 rfl rfl)
theorem dX6_boatPart_111 : decode cX6_boatPart 111 = .ok (.goto 51, 3) := dk_167 0 51 (dk_at dksX6_boatPart_4 11 rfl rfl)
theorem dX6_boatPart_114 : decode cX6_boatPart 114 = .ok (.aload_n 0, 1) := dk_42 (dk_at dksX6_boatPart_4 14 rfl rfl)
theorem dX6_boatPart_115 : decode cX6_boatPart 115 = .ok (.sipush 1667, 3) := dk_17 6 131 (dk_at dksX6_boatPart_4 15 rfl rfl)
theorem dX6_boatPart_118 : decode cX6_boatPart 118 = .ok (.iconst 0, 1) := dk_3 (dk_at dksX6_boatPart_4 18 rfl rfl)
theorem dX6_boatPart_119 : decode cX6_boatPart 119 = .ok (.iconst 3, 1) := dk_6 (dk_at dksX6_boatPart_4 19 rfl rfl)
theorem dX6_boatPart_120 : decode cX6_boatPart 120 = .ok (.invokevirtual 188, 3) := dk_182 0 188 (dk_at dksX6_boatPart_4 20 rfl rfl)
theorem dX6_boatPart_123 : decode cX6_boatPart 123 = .ok (.istore_n 2, 1) := dk_61 (dk_at dksX6_boatPart_4 23 rfl rfl)
theorem dX6_boatPart_124 : decode cX6_boatPart 124 = .ok (.goto 38, 3) := dk_167 0 38 (dk_at dksX6_boatPart_5 0 rfl rfl)
theorem dX6_boatPart_127 : decode cX6_boatPart 127 = .ok (.aload_n 0, 1) := dk_42 (dk_at dksX6_boatPart_5 3 rfl rfl)
theorem dX6_boatPart_128 : decode cX6_boatPart 128 = .ok (.sipush 1668, 3) := dk_17 6 132 (dk_at dksX6_boatPart_5 4 rfl rfl)
theorem dX6_boatPart_131 : decode cX6_boatPart 131 = .ok (.iconst 0, 1) := dk_3 (dk_at dksX6_boatPart_5 7 rfl rfl)
theorem dX6_boatPart_132 : decode cX6_boatPart 132 = .ok (.bipush 16, 2) := dk_16 16 (dk_at dksX6_boatPart_5 8 rfl rfl)
theorem dX6_boatPart_134 : decode cX6_boatPart 134 = .ok (.invokevirtual 188, 3) := dk_182 0 188 (dk_at dksX6_boatPart_5 10 rfl rfl)
theorem dX6_boatPart_137 : decode cX6_boatPart 137 = .ok (.istore_n 2, 1) := dk_61 (dk_at dksX6_boatPart_5 13 rfl rfl)
theorem dX6_boatPart_138 : decode cX6_boatPart 138 = .ok (.goto 24, 3) := dk_167 0 24 (dk_at dksX6_boatPart_5 14 rfl rfl)
theorem dX6_boatPart_141 : decode cX6_boatPart 141 = .ok (.aload_n 0, 1) := dk_42 (dk_at dksX6_boatPart_5 17 rfl rfl)
theorem dX6_boatPart_142 : decode cX6_boatPart 142 = .ok (.invokevirtual 209, 3) := dk_182 0 209 (dk_at dksX6_boatPart_5 18 rfl rfl)
theorem dX6_boatPart_145 : decode cX6_boatPart 145 = .ok (.istore_n 2, 1) := dk_61 (dk_at dksX6_boatPart_5 21 rfl rfl)
theorem dX6_boatPart_146 : decode cX6_boatPart 146 = .ok (.goto 16, 3) := dk_167 0 16 (dk_at dksX6_boatPart_6 0 rfl rfl)
theorem dX6_boatPart_149 : decode cX6_boatPart 149 = .ok (.aload_n 0, 1) := dk_42 (dk_at dksX6_boatPart_6 3 rfl rfl)
theorem dX6_boatPart_150 : decode cX6_boatPart 150 = .ok (.invokevirtual 213, 3) := dk_182 0 213 (dk_at dksX6_boatPart_6 4 rfl rfl)
theorem dX6_boatPart_153 : decode cX6_boatPart 153 = .ok (.istore_n 2, 1) := dk_61 (dk_at dksX6_boatPart_6 7 rfl rfl)
theorem dX6_boatPart_154 : decode cX6_boatPart 154 = .ok (.goto 8, 3) := dk_167 0 8 (dk_at dksX6_boatPart_6 8 rfl rfl)
theorem dX6_boatPart_157 : decode cX6_boatPart 157 = .ok (.aload_n 0, 1) := dk_42 (dk_at dksX6_boatPart_6 11 rfl rfl)
theorem dX6_boatPart_158 : decode cX6_boatPart 158 = .ok (.invokevirtual 216, 3) := dk_182 0 216 (dk_at dksX6_boatPart_6 12 rfl rfl)
theorem dX6_boatPart_161 : decode cX6_boatPart 161 = .ok (.istore_n 2, 1) := dk_61 (dk_at dksX6_boatPart_6 15 rfl rfl)
theorem dX6_boatPart_162 : decode cX6_boatPart 162 = .ok (.iload_n 2, 1) := dk_28 (dk_at dksX6_boatPart_6 16 rfl rfl)
theorem dX6_boatPart_163 : decode cX6_boatPart 163 = .ok (.ifCond .eq 16, 3) := dk_153 0 16 (dk_at dksX6_boatPart_6 17 rfl rfl)
theorem dX6_boatPart_166 : decode cX6_boatPart 166 = .ok (.aload_n 0, 1) := dk_42 (dk_at dksX6_boatPart_6 20 rfl rfl)
theorem dX6_boatPart_167 : decode cX6_boatPart 167 = .ok (.bipush 59, 2) := dk_16 59 (dk_at dksX6_boatPart_6 21 rfl rfl)
theorem dX6_boatPart_169 : decode cX6_boatPart 169 = .ok (.invokevirtual 219, 3) := dk_182 0 219 (dk_at dksX6_boatPart_7 0 rfl rfl)
theorem dX6_boatPart_172 : decode cX6_boatPart 172 = .ok (.ifCond .eq 7, 3) := dk_153 0 7 (dk_at dksX6_boatPart_7 3 rfl rfl)
theorem dX6_boatPart_175 : decode cX6_boatPart 175 = .ok (.iconst 1, 1) := dk_4 (dk_at dksX6_boatPart_7 6 rfl rfl)
theorem dX6_boatPart_176 : decode cX6_boatPart 176 = .ok (.goto 4, 3) := dk_167 0 4 (dk_at dksX6_boatPart_7 7 rfl rfl)
theorem dX6_boatPart_179 : decode cX6_boatPart 179 = .ok (.iconst 0, 1) := dk_3 (dk_at dksX6_boatPart_7 10 rfl rfl)
theorem dX6_boatPart_180 : decode cX6_boatPart 180 = .ok (.ireturn, 1) := dk_172 (dk_at dksX6_boatPart_7 11 rfl rfl)
abbrev cX6_inWords : ByteArray := prog_15_method_26_code
def yX6_inWords : MethodName := ⟨RX6, "inWords", "(Ljava/lang/String;)I"⟩
def dkwX6_inWords_5 : List UInt8 := [153, 0, 5, 28, 172, 132, 2, 1, 21, 4, 4, 96, 62, 167, 255, 140, 2, 172]
abbrev dktX6_inWords_5 : List UInt8 := dkwX6_inWords_5 ++ []
def dkwX6_inWords_4 : List UInt8 := [29, 100, 182, 0, 114, 160, 0, 7, 4, 167, 0, 4, 3, 54, 5, 132, 6, 1, 167, 255, 212, 21, 5]
abbrev dktX6_inWords_4 : List UInt8 := dkwX6_inWords_4 ++ dktX6_inWords_5
def dkwX6_inWords_3 : List UInt8 := [21, 4, 162, 0, 43, 21, 5, 153, 0, 38, 43, 21, 6, 182, 0, 144, 42, 42, 180, 0, 117, 21, 6, 96]
abbrev dktX6_inWords_3 : List UInt8 := dkwX6_inWords_3 ++ dktX6_inWords_4
def dkwX6_inWords_2 : List UInt8 := [180, 0, 111, 42, 180, 0, 117, 100, 160, 0, 7, 4, 167, 0, 4, 3, 54, 5, 29, 54, 6, 21, 6]
abbrev dktX6_inWords_2 : List UInt8 := dkwX6_inWords_2 ++ dktX6_inWords_3
def dkwX6_inWords_1 : List UInt8 := [54, 4, 43, 21, 4, 182, 0, 144, 16, 32, 159, 0, 9, 132, 4, 1, 167, 255, 242, 21, 4, 29, 100, 42]
abbrev dktX6_inWords_1 : List UInt8 := dkwX6_inWords_1 ++ dktX6_inWords_2
def dkwX6_inWords_0 : List UInt8 := [42, 180, 0, 123, 5, 159, 0, 5, 2, 172, 3, 61, 4, 62, 29, 43, 182, 0, 138, 162, 0, 114, 29]
abbrev dktX6_inWords_0 : List UInt8 := dkwX6_inWords_0 ++ dktX6_inWords_1
theorem dksX6_inWords_0 : cX6_inWords.data.toList.drop 0 = dktX6_inWords_0 := by decide +kernel
theorem dksX6_inWords_1 : cX6_inWords.data.toList.drop 23 = dktX6_inWords_1 := dk_seg dksX6_inWords_0 23 rfl rfl
theorem dksX6_inWords_2 : cX6_inWords.data.toList.drop 47 = dktX6_inWords_2 := dk_seg dksX6_inWords_1 24 rfl rfl
theorem dksX6_inWords_3 : cX6_inWords.data.toList.drop 70 = dktX6_inWords_3 := dk_seg dksX6_inWords_2 23 rfl rfl
theorem dksX6_inWords_4 : cX6_inWords.data.toList.drop 94 = dktX6_inWords_4 := dk_seg dksX6_inWords_3 24 rfl rfl
theorem dksX6_inWords_5 : cX6_inWords.data.toList.drop 117 = dktX6_inWords_5 := dk_seg dksX6_inWords_4 23 rfl rfl
theorem dX6_inWords_0 : decode cX6_inWords 0 = .ok (.aload_n 0, 1) := dk_42 (dk_at dksX6_inWords_0 0 rfl rfl)
theorem dX6_inWords_1 : decode cX6_inWords 1 = .ok (.getfield 123, 3) := dk_180 0 123 (dk_at dksX6_inWords_0 1 rfl rfl)
theorem dX6_inWords_4 : decode cX6_inWords 4 = .ok (.iconst 2, 1) := dk_5 (dk_at dksX6_inWords_0 4 rfl rfl)
theorem dX6_inWords_5 : decode cX6_inWords 5 = .ok (.if_icmp .eq 5, 3) := dk_159 0 5 (dk_at dksX6_inWords_0 5 rfl rfl)
theorem dX6_inWords_8 : decode cX6_inWords 8 = .ok (.iconst (-1), 1) := dk_2 (dk_at dksX6_inWords_0 8 rfl rfl)
theorem dX6_inWords_9 : decode cX6_inWords 9 = .ok (.ireturn, 1) := dk_172 (dk_at dksX6_inWords_0 9 rfl rfl)
theorem dX6_inWords_10 : decode cX6_inWords 10 = .ok (.iconst 0, 1) := dk_3 (dk_at dksX6_inWords_0 10 rfl rfl)
theorem dX6_inWords_11 : decode cX6_inWords 11 = .ok (.istore_n 2, 1) := dk_61 (dk_at dksX6_inWords_0 11 rfl rfl)
theorem dX6_inWords_12 : decode cX6_inWords 12 = .ok (.iconst 1, 1) := dk_4 (dk_at dksX6_inWords_0 12 rfl rfl)
theorem dX6_inWords_13 : decode cX6_inWords 13 = .ok (.istore_n 3, 1) := dk_62 (dk_at dksX6_inWords_0 13 rfl rfl)
theorem dX6_inWords_14 : decode cX6_inWords 14 = .ok (.iload_n 3, 1) := dk_29 (dk_at dksX6_inWords_0 14 rfl rfl)
theorem dX6_inWords_15 : decode cX6_inWords 15 = .ok (.aload_n 1, 1) := dk_43 (dk_at dksX6_inWords_0 15 rfl rfl)
theorem dX6_inWords_16 : decode cX6_inWords 16 = .ok (.invokevirtual 138, 3) := dk_182 0 138 (dk_at dksX6_inWords_0 16 rfl rfl)
theorem dX6_inWords_19 : decode cX6_inWords 19 = .ok (.if_icmp .ge 114, 3) := dk_162 0 114 (dk_at dksX6_inWords_0 19 rfl rfl)
theorem dX6_inWords_22 : decode cX6_inWords 22 = .ok (.iload_n 3, 1) := dk_29 (dk_at dksX6_inWords_0 22 rfl rfl)
theorem dX6_inWords_23 : decode cX6_inWords 23 = .ok (.istore 4, 2) := dk_54 4 (dk_at dksX6_inWords_1 0 rfl rfl)
theorem dX6_inWords_25 : decode cX6_inWords 25 = .ok (.aload_n 1, 1) := dk_43 (dk_at dksX6_inWords_1 2 rfl rfl)
theorem dX6_inWords_26 : decode cX6_inWords 26 = .ok (.iload 4, 2) := dk_21 4 (dk_at dksX6_inWords_1 3 rfl rfl)
theorem dX6_inWords_28 : decode cX6_inWords 28 = .ok (.invokevirtual 144, 3) := dk_182 0 144 (dk_at dksX6_inWords_1 5 rfl rfl)
theorem dX6_inWords_31 : decode cX6_inWords 31 = .ok (.bipush 32, 2) := dk_16 32 (dk_at dksX6_inWords_1 8 rfl rfl)
theorem dX6_inWords_33 : decode cX6_inWords 33 = .ok (.if_icmp .eq 9, 3) := dk_159 0 9 (dk_at dksX6_inWords_1 10 rfl rfl)
theorem dX6_inWords_36 : decode cX6_inWords 36 = .ok (.iinc 4 1, 3) := dk_132 4 1 (dk_at dksX6_inWords_1 13 rfl rfl)
theorem dX6_inWords_39 : decode cX6_inWords 39 = .ok (.goto (-14), 3) := dk_167 255 242 (dk_at dksX6_inWords_1 16 rfl rfl)
theorem dX6_inWords_42 : decode cX6_inWords 42 = .ok (.iload 4, 2) := dk_21 4 (dk_at dksX6_inWords_1 19 rfl rfl)
theorem dX6_inWords_44 : decode cX6_inWords 44 = .ok (.iload_n 3, 1) := dk_29 (dk_at dksX6_inWords_1 21 rfl rfl)
theorem dX6_inWords_45 : decode cX6_inWords 45 = .ok (.isub, 1) := dk_100 (dk_at dksX6_inWords_1 22 rfl rfl)
theorem dX6_inWords_46 : decode cX6_inWords 46 = .ok (.aload_n 0, 1) := dk_42 (dk_at dksX6_inWords_1 23 rfl rfl)
theorem dX6_inWords_47 : decode cX6_inWords 47 = .ok (.getfield 111, 3) := dk_180 0 111 (dk_at dksX6_inWords_2 0 rfl rfl)
theorem dX6_inWords_50 : decode cX6_inWords 50 = .ok (.aload_n 0, 1) := dk_42 (dk_at dksX6_inWords_2 3 rfl rfl)
theorem dX6_inWords_51 : decode cX6_inWords 51 = .ok (.getfield 117, 3) := dk_180 0 117 (dk_at dksX6_inWords_2 4 rfl rfl)
theorem dX6_inWords_54 : decode cX6_inWords 54 = .ok (.isub, 1) := dk_100 (dk_at dksX6_inWords_2 7 rfl rfl)
theorem dX6_inWords_55 : decode cX6_inWords 55 = .ok (.if_icmp .ne 7, 3) := dk_160 0 7 (dk_at dksX6_inWords_2 8 rfl rfl)
theorem dX6_inWords_58 : decode cX6_inWords 58 = .ok (.iconst 1, 1) := dk_4 (dk_at dksX6_inWords_2 11 rfl rfl)
theorem dX6_inWords_59 : decode cX6_inWords 59 = .ok (.goto 4, 3) := dk_167 0 4 (dk_at dksX6_inWords_2 12 rfl rfl)
theorem dX6_inWords_62 : decode cX6_inWords 62 = .ok (.iconst 0, 1) := dk_3 (dk_at dksX6_inWords_2 15 rfl rfl)
theorem dX6_inWords_63 : decode cX6_inWords 63 = .ok (.istore 5, 2) := dk_54 5 (dk_at dksX6_inWords_2 16 rfl rfl)
theorem dX6_inWords_65 : decode cX6_inWords 65 = .ok (.iload_n 3, 1) := dk_29 (dk_at dksX6_inWords_2 18 rfl rfl)
theorem dX6_inWords_66 : decode cX6_inWords 66 = .ok (.istore 6, 2) := dk_54 6 (dk_at dksX6_inWords_2 19 rfl rfl)
theorem dX6_inWords_68 : decode cX6_inWords 68 = .ok (.iload 6, 2) := dk_21 6 (dk_at dksX6_inWords_2 21 rfl rfl)
theorem dX6_inWords_70 : decode cX6_inWords 70 = .ok (.iload 4, 2) := dk_21 4 (dk_at dksX6_inWords_3 0 rfl rfl)
theorem dX6_inWords_72 : decode cX6_inWords 72 = .ok (.if_icmp .ge 43, 3) := dk_162 0 43 (dk_at dksX6_inWords_3 2 rfl rfl)
theorem dX6_inWords_75 : decode cX6_inWords 75 = .ok (.iload 5, 2) := dk_21 5 (dk_at dksX6_inWords_3 5 rfl rfl)
theorem dX6_inWords_77 : decode cX6_inWords 77 = .ok (.ifCond .eq 38, 3) := dk_153 0 38 (dk_at dksX6_inWords_3 7 rfl rfl)
theorem dX6_inWords_80 : decode cX6_inWords 80 = .ok (.aload_n 1, 1) := dk_43 (dk_at dksX6_inWords_3 10 rfl rfl)
theorem dX6_inWords_81 : decode cX6_inWords 81 = .ok (.iload 6, 2) := dk_21 6 (dk_at dksX6_inWords_3 11 rfl rfl)
theorem dX6_inWords_83 : decode cX6_inWords 83 = .ok (.invokevirtual 144, 3) := dk_182 0 144 (dk_at dksX6_inWords_3 13 rfl rfl)
theorem dX6_inWords_86 : decode cX6_inWords 86 = .ok (.aload_n 0, 1) := dk_42 (dk_at dksX6_inWords_3 16 rfl rfl)
theorem dX6_inWords_87 : decode cX6_inWords 87 = .ok (.aload_n 0, 1) := dk_42 (dk_at dksX6_inWords_3 17 rfl rfl)
theorem dX6_inWords_88 : decode cX6_inWords 88 = .ok (.getfield 117, 3) := dk_180 0 117 (dk_at dksX6_inWords_3 18 rfl rfl)
theorem dX6_inWords_91 : decode cX6_inWords 91 = .ok (.iload 6, 2) := dk_21 6 (dk_at dksX6_inWords_3 21 rfl rfl)
theorem dX6_inWords_93 : decode cX6_inWords 93 = .ok (.iadd, 1) := dk_96 (dk_at dksX6_inWords_3 23 rfl rfl)
theorem dX6_inWords_94 : decode cX6_inWords 94 = .ok (.iload_n 3, 1) := dk_29 (dk_at dksX6_inWords_4 0 rfl rfl)
theorem dX6_inWords_95 : decode cX6_inWords 95 = .ok (.isub, 1) := dk_100 (dk_at dksX6_inWords_4 1 rfl rfl)
theorem dX6_inWords_96 : decode cX6_inWords 96 = .ok (.invokevirtual 114, 3) := dk_182 0 114 (dk_at dksX6_inWords_4 2 rfl rfl)
theorem dX6_inWords_99 : decode cX6_inWords 99 = .ok (.if_icmp .ne 7, 3) := dk_160 0 7 (dk_at dksX6_inWords_4 5 rfl rfl)
theorem dX6_inWords_102 : decode cX6_inWords 102 = .ok (.iconst 1, 1) := dk_4 (dk_at dksX6_inWords_4 8 rfl rfl)
theorem dX6_inWords_103 : decode cX6_inWords 103 = .ok (.goto 4, 3) := dk_167 0 4 (dk_at dksX6_inWords_4 9 rfl rfl)
theorem dX6_inWords_106 : decode cX6_inWords 106 = .ok (.iconst 0, 1) := dk_3 (dk_at dksX6_inWords_4 12 rfl rfl)
theorem dX6_inWords_107 : decode cX6_inWords 107 = .ok (.istore 5, 2) := dk_54 5 (dk_at dksX6_inWords_4 13 rfl rfl)
theorem dX6_inWords_109 : decode cX6_inWords 109 = .ok (.iinc 6 1, 3) := dk_132 6 1 (dk_at dksX6_inWords_4 15 rfl rfl)
theorem dX6_inWords_112 : decode cX6_inWords 112 = .ok (.goto (-44), 3) := dk_167 255 212 (dk_at dksX6_inWords_4 18 rfl rfl)
theorem dX6_inWords_115 : decode cX6_inWords 115 = .ok (.iload 5, 2) := dk_21 5 (dk_at dksX6_inWords_4 21 rfl rfl)
theorem dX6_inWords_117 : decode cX6_inWords 117 = .ok (.ifCond .eq 5, 3) := dk_153 0 5 (dk_at dksX6_inWords_5 0 rfl rfl)
theorem dX6_inWords_120 : decode cX6_inWords 120 = .ok (.iload_n 2, 1) := dk_28 (dk_at dksX6_inWords_5 3 rfl rfl)
theorem dX6_inWords_121 : decode cX6_inWords 121 = .ok (.ireturn, 1) := dk_172 (dk_at dksX6_inWords_5 4 rfl rfl)
theorem dX6_inWords_122 : decode cX6_inWords 122 = .ok (.iinc 2 1, 3) := dk_132 2 1 (dk_at dksX6_inWords_5 5 rfl rfl)
theorem dX6_inWords_125 : decode cX6_inWords 125 = .ok (.iload 4, 2) := dk_21 4 (dk_at dksX6_inWords_5 8 rfl rfl)
theorem dX6_inWords_127 : decode cX6_inWords 127 = .ok (.iconst 1, 1) := dk_4 (dk_at dksX6_inWords_5 10 rfl rfl)
theorem dX6_inWords_128 : decode cX6_inWords 128 = .ok (.iadd, 1) := dk_96 (dk_at dksX6_inWords_5 11 rfl rfl)
theorem dX6_inWords_129 : decode cX6_inWords 129 = .ok (.istore_n 3, 1) := dk_62 (dk_at dksX6_inWords_5 12 rfl rfl)
theorem dX6_inWords_130 : decode cX6_inWords 130 = .ok (.goto (-116), 3) := dk_167 255 140 (dk_at dksX6_inWords_5 13 rfl rfl)
theorem dX6_inWords_133 : decode cX6_inWords 133 = .ok (.iconst (-1), 1) := dk_2 (dk_at dksX6_inWords_5 16 rfl rfl)
theorem dX6_inWords_134 : decode cX6_inWords 134 = .ok (.ireturn, 1) := dk_172 (dk_at dksX6_inWords_5 17 rfl rfl)
abbrev cX6_fails : ByteArray := prog_15_method_27_code
def yX6_fails : MethodName := ⟨RX6, "fails", "(I)Z"⟩
def dkwX6_fails_1 : List UInt8 := [42, 42, 180, 0, 117, 181, 0, 41, 3, 172]
abbrev dktX6_fails_1 : List UInt8 := dkwX6_fails_1 ++ []
def dkwX6_fails_0 : List UInt8 := [42, 180, 0, 148, 154, 0, 28, 42, 42, 180, 0, 123, 4, 160, 0, 7, 4, 167, 0, 4, 27, 181, 0, 148]
abbrev dktX6_fails_0 : List UInt8 := dkwX6_fails_0 ++ dktX6_fails_1
theorem dksX6_fails_0 : cX6_fails.data.toList.drop 0 = dktX6_fails_0 := by decide +kernel
theorem dksX6_fails_1 : cX6_fails.data.toList.drop 24 = dktX6_fails_1 := dk_seg dksX6_fails_0 24 rfl rfl
theorem dX6_fails_0 : decode cX6_fails 0 = .ok (.aload_n 0, 1) := dk_42 (dk_at dksX6_fails_0 0 rfl rfl)
theorem dX6_fails_1 : decode cX6_fails 1 = .ok (.getfield 148, 3) := dk_180 0 148 (dk_at dksX6_fails_0 1 rfl rfl)
theorem dX6_fails_4 : decode cX6_fails 4 = .ok (.ifCond .ne 28, 3) := dk_154 0 28 (dk_at dksX6_fails_0 4 rfl rfl)
theorem dX6_fails_7 : decode cX6_fails 7 = .ok (.aload_n 0, 1) := dk_42 (dk_at dksX6_fails_0 7 rfl rfl)
theorem dX6_fails_8 : decode cX6_fails 8 = .ok (.aload_n 0, 1) := dk_42 (dk_at dksX6_fails_0 8 rfl rfl)
theorem dX6_fails_9 : decode cX6_fails 9 = .ok (.getfield 123, 3) := dk_180 0 123 (dk_at dksX6_fails_0 9 rfl rfl)
theorem dX6_fails_12 : decode cX6_fails 12 = .ok (.iconst 1, 1) := dk_4 (dk_at dksX6_fails_0 12 rfl rfl)
theorem dX6_fails_13 : decode cX6_fails 13 = .ok (.if_icmp .ne 7, 3) := dk_160 0 7 (dk_at dksX6_fails_0 13 rfl rfl)
theorem dX6_fails_16 : decode cX6_fails 16 = .ok (.iconst 1, 1) := dk_4 (dk_at dksX6_fails_0 16 rfl rfl)
theorem dX6_fails_17 : decode cX6_fails 17 = .ok (.goto 4, 3) := dk_167 0 4 (dk_at dksX6_fails_0 17 rfl rfl)
theorem dX6_fails_20 : decode cX6_fails 20 = .ok (.iload_n 1, 1) := dk_27 (dk_at dksX6_fails_0 20 rfl rfl)
theorem dX6_fails_21 : decode cX6_fails 21 = .ok (.putfield 148, 3) := dk_181 0 148 (dk_at dksX6_fails_0 21 rfl rfl)
theorem dX6_fails_24 : decode cX6_fails 24 = .ok (.aload_n 0, 1) := dk_42 (dk_at dksX6_fails_1 0 rfl rfl)
theorem dX6_fails_25 : decode cX6_fails 25 = .ok (.aload_n 0, 1) := dk_42 (dk_at dksX6_fails_1 1 rfl rfl)
theorem dX6_fails_26 : decode cX6_fails 26 = .ok (.getfield 117, 3) := dk_180 0 117 (dk_at dksX6_fails_1 2 rfl rfl)
theorem dX6_fails_29 : decode cX6_fails 29 = .ok (.putfield 41, 3) := dk_181 0 41 (dk_at dksX6_fails_1 5 rfl rfl)
theorem dX6_fails_32 : decode cX6_fails 32 = .ok (.iconst 0, 1) := dk_3 (dk_at dksX6_fails_1 8 rfl rfl)
theorem dX6_fails_33 : decode cX6_fails 33 = .ok (.ireturn, 1) := dk_172 (dk_at dksX6_fails_1 9 rfl rfl)
abbrev cX6_number : ByteArray := prog_15_method_31_code
def yX6_number : MethodName := ⟨RX6, "number", "(III)Z"⟩
def dkwX6_number_2 : List UInt8 := [182, 0, 154, 4, 172]
abbrev dktX6_number_2 : List UInt8 := dkwX6_number_2 ++ []
def dkwX6_number_1 : List UInt8 := [180, 0, 120, 29, 164, 0, 9, 42, 7, 182, 0, 160, 172, 42, 180, 0, 7, 27, 42, 180, 0, 120, 79, 42]
abbrev dktX6_number_1 : List UInt8 := dkwX6_number_1 ++ dktX6_number_2
def dkwX6_number_0 : List UInt8 := [42, 180, 0, 123, 6, 159, 0, 9, 42, 5, 182, 0, 160, 172, 42, 180, 0, 120, 28, 161, 0, 11, 42]
abbrev dktX6_number_0 : List UInt8 := dkwX6_number_0 ++ dktX6_number_1
theorem dksX6_number_0 : cX6_number.data.toList.drop 0 = dktX6_number_0 := by decide +kernel
theorem dksX6_number_1 : cX6_number.data.toList.drop 23 = dktX6_number_1 := dk_seg dksX6_number_0 23 rfl rfl
theorem dksX6_number_2 : cX6_number.data.toList.drop 47 = dktX6_number_2 := dk_seg dksX6_number_1 24 rfl rfl
theorem dX6_number_0 : decode cX6_number 0 = .ok (.aload_n 0, 1) := dk_42 (dk_at dksX6_number_0 0 rfl rfl)
theorem dX6_number_1 : decode cX6_number 1 = .ok (.getfield 123, 3) := dk_180 0 123 (dk_at dksX6_number_0 1 rfl rfl)
theorem dX6_number_4 : decode cX6_number 4 = .ok (.iconst 3, 1) := dk_6 (dk_at dksX6_number_0 4 rfl rfl)
theorem dX6_number_5 : decode cX6_number 5 = .ok (.if_icmp .eq 9, 3) := dk_159 0 9 (dk_at dksX6_number_0 5 rfl rfl)
theorem dX6_number_8 : decode cX6_number 8 = .ok (.aload_n 0, 1) := dk_42 (dk_at dksX6_number_0 8 rfl rfl)
theorem dX6_number_9 : decode cX6_number 9 = .ok (.iconst 2, 1) := dk_5 (dk_at dksX6_number_0 9 rfl rfl)
theorem dX6_number_10 : decode cX6_number 10 = .ok (.invokevirtual 160, 3) := dk_182 0 160 (dk_at dksX6_number_0 10 rfl rfl)
theorem dX6_number_13 : decode cX6_number 13 = .ok (.ireturn, 1) := dk_172 (dk_at dksX6_number_0 13 rfl rfl)
theorem dX6_number_14 : decode cX6_number 14 = .ok (.aload_n 0, 1) := dk_42 (dk_at dksX6_number_0 14 rfl rfl)
theorem dX6_number_15 : decode cX6_number 15 = .ok (.getfield 120, 3) := dk_180 0 120 (dk_at dksX6_number_0 15 rfl rfl)
theorem dX6_number_18 : decode cX6_number 18 = .ok (.iload_n 2, 1) := dk_28 (dk_at dksX6_number_0 18 rfl rfl)
theorem dX6_number_19 : decode cX6_number 19 = .ok (.if_icmp .lt 11, 3) := dk_161 0 11 (dk_at dksX6_number_0 19 rfl rfl)
theorem dX6_number_22 : decode cX6_number 22 = .ok (.aload_n 0, 1) := dk_42 (dk_at dksX6_number_0 22 rfl rfl)
theorem dX6_number_23 : decode cX6_number 23 = .ok (.getfield 120, 3) := dk_180 0 120 (dk_at dksX6_number_1 0 rfl rfl)
theorem dX6_number_26 : decode cX6_number 26 = .ok (.iload_n 3, 1) := dk_29 (dk_at dksX6_number_1 3 rfl rfl)
theorem dX6_number_27 : decode cX6_number 27 = .ok (.if_icmp .le 9, 3) := dk_164 0 9 (dk_at dksX6_number_1 4 rfl rfl)
theorem dX6_number_30 : decode cX6_number 30 = .ok (.aload_n 0, 1) := dk_42 (dk_at dksX6_number_1 7 rfl rfl)
theorem dX6_number_31 : decode cX6_number 31 = .ok (.iconst 4, 1) := dk_7 (dk_at dksX6_number_1 8 rfl rfl)
theorem dX6_number_32 : decode cX6_number 32 = .ok (.invokevirtual 160, 3) := dk_182 0 160 (dk_at dksX6_number_1 9 rfl rfl)
theorem dX6_number_35 : decode cX6_number 35 = .ok (.ireturn, 1) := dk_172 (dk_at dksX6_number_1 12 rfl rfl)
theorem dX6_number_36 : decode cX6_number 36 = .ok (.aload_n 0, 1) := dk_42 (dk_at dksX6_number_1 13 rfl rfl)
theorem dX6_number_37 : decode cX6_number 37 = .ok (.getfield 7, 3) := dk_180 0 7 (dk_at dksX6_number_1 14 rfl rfl)
theorem dX6_number_40 : decode cX6_number 40 = .ok (.iload_n 1, 1) := dk_27 (dk_at dksX6_number_1 17 rfl rfl)
theorem dX6_number_41 : decode cX6_number 41 = .ok (.aload_n 0, 1) := dk_42 (dk_at dksX6_number_1 18 rfl rfl)
theorem dX6_number_42 : decode cX6_number 42 = .ok (.getfield 120, 3) := dk_180 0 120 (dk_at dksX6_number_1 19 rfl rfl)
theorem dX6_number_45 : decode cX6_number 45 = .ok (.iastore, 1) := dk_79 (dk_at dksX6_number_1 22 rfl rfl)
theorem dX6_number_46 : decode cX6_number 46 = .ok (.aload_n 0, 1) := dk_42 (dk_at dksX6_number_1 23 rfl rfl)
theorem dX6_number_47 : decode cX6_number 47 = .ok (.invokevirtual 154, 3) := dk_182 0 154 (dk_at dksX6_number_2 0 rfl rfl)
theorem dX6_number_50 : decode cX6_number 50 = .ok (.iconst 1, 1) := dk_4 (dk_at dksX6_number_2 3 rfl rfl)
theorem dX6_number_51 : decode cX6_number 51 = .ok (.ireturn, 1) := dk_172 (dk_at dksX6_number_2 4 rfl rfl)
abbrev cX6_anOmen : ByteArray := prog_15_method_41_code
def yX6_anOmen : MethodName := ⟨RX6, "anOmen", "()Z"⟩
def dkwX6_anOmen_3 : List UInt8 := [3, 128, 79, 42, 180, 0, 7, 17, 6, 128, 92, 46, 4, 96, 79, 4, 172]
abbrev dktX6_anOmen_3 : List UInt8 := dkwX6_anOmen_3 ++ []
def dkwX6_anOmen_2 : List UInt8 := [42, 180, 0, 7, 17, 6, 134, 92, 46, 42, 16, 7, 182, 0, 191, 153, 0, 9, 4, 27, 120, 167, 0, 4]
abbrev dktX6_anOmen_2 : List UInt8 := dkwX6_anOmen_2 ++ dktX6_anOmen_3
def dkwX6_anOmen_1 : List UInt8 := [16, 6, 182, 0, 184, 153, 0, 17, 42, 17, 6, 138, 27, 96, 4, 8, 182, 0, 188, 154, 0, 5, 3, 172]
abbrev dktX6_anOmen_1 : List UInt8 := dkwX6_anOmen_1 ++ dktX6_anOmen_2
def dkwX6_anOmen_0 : List UInt8 := [42, 180, 0, 7, 17, 6, 128, 46, 60, 42, 3, 16, 6, 3, 182, 0, 180, 153, 0, 28, 42, 18, 171]
abbrev dktX6_anOmen_0 : List UInt8 := dkwX6_anOmen_0 ++ dktX6_anOmen_1
theorem dksX6_anOmen_0 : cX6_anOmen.data.toList.drop 0 = dktX6_anOmen_0 := by decide +kernel
theorem dksX6_anOmen_1 : cX6_anOmen.data.toList.drop 23 = dktX6_anOmen_1 := dk_seg dksX6_anOmen_0 23 rfl rfl
theorem dksX6_anOmen_2 : cX6_anOmen.data.toList.drop 47 = dktX6_anOmen_2 := dk_seg dksX6_anOmen_1 24 rfl rfl
theorem dksX6_anOmen_3 : cX6_anOmen.data.toList.drop 71 = dktX6_anOmen_3 := dk_seg dksX6_anOmen_2 24 rfl rfl
theorem dX6_anOmen_0 : decode cX6_anOmen 0 = .ok (.aload_n 0, 1) := dk_42 (dk_at dksX6_anOmen_0 0 rfl rfl)
theorem dX6_anOmen_1 : decode cX6_anOmen 1 = .ok (.getfield 7, 3) := dk_180 0 7 (dk_at dksX6_anOmen_0 1 rfl rfl)
theorem dX6_anOmen_4 : decode cX6_anOmen 4 = .ok (.sipush 1664, 3) := dk_17 6 128 (dk_at dksX6_anOmen_0 4 rfl rfl)
theorem dX6_anOmen_7 : decode cX6_anOmen 7 = .ok (.iaload, 1) := dk_46 (dk_at dksX6_anOmen_0 7 rfl rfl)
theorem dX6_anOmen_8 : decode cX6_anOmen 8 = .ok (.istore_n 1, 1) := dk_60 (dk_at dksX6_anOmen_0 8 rfl rfl)
theorem dX6_anOmen_9 : decode cX6_anOmen 9 = .ok (.aload_n 0, 1) := dk_42 (dk_at dksX6_anOmen_0 9 rfl rfl)
theorem dX6_anOmen_10 : decode cX6_anOmen 10 = .ok (.iconst 0, 1) := dk_3 (dk_at dksX6_anOmen_0 10 rfl rfl)
theorem dX6_anOmen_11 : decode cX6_anOmen 11 = .ok (.bipush 6, 2) := dk_16 6 (dk_at dksX6_anOmen_0 11 rfl rfl)
theorem dX6_anOmen_13 : decode cX6_anOmen 13 = .ok (.iconst 0, 1) := dk_3 (dk_at dksX6_anOmen_0 13 rfl rfl)
theorem dX6_anOmen_14 : decode cX6_anOmen 14 = .ok (.invokevirtual 180, 3) := dk_182 0 180 (dk_at dksX6_anOmen_0 14 rfl rfl)
theorem dX6_anOmen_17 : decode cX6_anOmen 17 = .ok (.ifCond .eq 28, 3) := dk_153 0 28 (dk_at dksX6_anOmen_0 17 rfl rfl)
theorem dX6_anOmen_20 : decode cX6_anOmen 20 = .ok (.aload_n 0, 1) := dk_42 (dk_at dksX6_anOmen_0 20 rfl rfl)
theorem dX6_anOmen_21 : decode cX6_anOmen 21 = .ok (.ldc 171, 2) := dk_18 171 (dk_at dksX6_anOmen_0 21 rfl rfl)
theorem dX6_anOmen_23 : decode cX6_anOmen 23 = .ok (.bipush 6, 2) := dk_16 6 (dk_at dksX6_anOmen_1 0 rfl rfl)
theorem dX6_anOmen_25 : decode cX6_anOmen 25 = .ok (.invokevirtual 184, 3) := dk_182 0 184 (dk_at dksX6_anOmen_1 2 rfl rfl)
theorem dX6_anOmen_28 : decode cX6_anOmen 28 = .ok (.ifCond .eq 17, 3) := dk_153 0 17 (dk_at dksX6_anOmen_1 5 rfl rfl)
theorem dX6_anOmen_31 : decode cX6_anOmen 31 = .ok (.aload_n 0, 1) := dk_42 (dk_at dksX6_anOmen_1 8 rfl rfl)
theorem dX6_anOmen_32 : decode cX6_anOmen 32 = .ok (.sipush 1674, 3) := dk_17 6 138 (dk_at dksX6_anOmen_1 9 rfl rfl)
theorem dX6_anOmen_35 : decode cX6_anOmen 35 = .ok (.iload_n 1, 1) := dk_27 (dk_at dksX6_anOmen_1 12 rfl rfl)
theorem dX6_anOmen_36 : decode cX6_anOmen 36 = .ok (.iadd, 1) := dk_96 (dk_at dksX6_anOmen_1 13 rfl rfl)
theorem dX6_anOmen_37 : decode cX6_anOmen 37 = .ok (.iconst 1, 1) := dk_4 (dk_at dksX6_anOmen_1 14 rfl rfl)
theorem dX6_anOmen_38 : decode cX6_anOmen 38 = .ok (.iconst 5, 1) := dk_8 (dk_at dksX6_anOmen_1 15 rfl rfl)
theorem dX6_anOmen_39 : decode cX6_anOmen 39 = .ok (.invokevirtual 188, 3) := dk_182 0 188 (dk_at dksX6_anOmen_1 16 rfl rfl)
theorem dX6_anOmen_42 : decode cX6_anOmen 42 = .ok (.ifCond .ne 5, 3) := dk_154 0 5 (dk_at dksX6_anOmen_1 19 rfl rfl)
theorem dX6_anOmen_45 : decode cX6_anOmen 45 = .ok (.iconst 0, 1) := dk_3 (dk_at dksX6_anOmen_1 22 rfl rfl)
theorem dX6_anOmen_46 : decode cX6_anOmen 46 = .ok (.ireturn, 1) := dk_172 (dk_at dksX6_anOmen_1 23 rfl rfl)
theorem dX6_anOmen_47 : decode cX6_anOmen 47 = .ok (.aload_n 0, 1) := dk_42 (dk_at dksX6_anOmen_2 0 rfl rfl)
theorem dX6_anOmen_48 : decode cX6_anOmen 48 = .ok (.getfield 7, 3) := dk_180 0 7 (dk_at dksX6_anOmen_2 1 rfl rfl)
theorem dX6_anOmen_51 : decode cX6_anOmen 51 = .ok (.sipush 1670, 3) := dk_17 6 134 (dk_at dksX6_anOmen_2 4 rfl rfl)
theorem dX6_anOmen_54 : decode cX6_anOmen 54 = .ok (.dup2, 1) := dk_92 (dk_at dksX6_anOmen_2 7 rfl rfl)
theorem dX6_anOmen_55 : decode cX6_anOmen 55 = .ok (.iaload, 1) := dk_46 (dk_at dksX6_anOmen_2 8 rfl rfl)
theorem dX6_anOmen_56 : decode cX6_anOmen 56 = .ok (.aload_n 0, 1) := dk_42 (dk_at dksX6_anOmen_2 9 rfl rfl)
theorem dX6_anOmen_57 : decode cX6_anOmen 57 = .ok (.bipush 7, 2) := dk_16 7 (dk_at dksX6_anOmen_2 10 rfl rfl)
theorem dX6_anOmen_59 : decode cX6_anOmen 59 = .ok (.invokevirtual 191, 3) := dk_182 0 191 (dk_at dksX6_anOmen_2 12 rfl rfl)
theorem dX6_anOmen_62 : decode cX6_anOmen 62 = .ok (.ifCond .eq 9, 3) := dk_153 0 9 (dk_at dksX6_anOmen_2 15 rfl rfl)
theorem dX6_anOmen_65 : decode cX6_anOmen 65 = .ok (.iconst 1, 1) := dk_4 (dk_at dksX6_anOmen_2 18 rfl rfl)
theorem dX6_anOmen_66 : decode cX6_anOmen 66 = .ok (.iload_n 1, 1) := dk_27 (dk_at dksX6_anOmen_2 19 rfl rfl)
theorem dX6_anOmen_67 : decode cX6_anOmen 67 = .ok (.ishl, 1) := dk_120 (dk_at dksX6_anOmen_2 20 rfl rfl)
theorem dX6_anOmen_68 : decode cX6_anOmen 68 = .ok (.goto 4, 3) := dk_167 0 4 (dk_at dksX6_anOmen_2 21 rfl rfl)
theorem dX6_anOmen_71 : decode cX6_anOmen 71 = .ok (.iconst 0, 1) := dk_3 (dk_at dksX6_anOmen_3 0 rfl rfl)
theorem dX6_anOmen_72 : decode cX6_anOmen 72 = .ok (.ior, 1) := dk_128 (dk_at dksX6_anOmen_3 1 rfl rfl)
theorem dX6_anOmen_73 : decode cX6_anOmen 73 = .ok (.iastore, 1) := dk_79 (dk_at dksX6_anOmen_3 2 rfl rfl)
theorem dX6_anOmen_74 : decode cX6_anOmen 74 = .ok (.aload_n 0, 1) := dk_42 (dk_at dksX6_anOmen_3 3 rfl rfl)
theorem dX6_anOmen_75 : decode cX6_anOmen 75 = .ok (.getfield 7, 3) := dk_180 0 7 (dk_at dksX6_anOmen_3 4 rfl rfl)
theorem dX6_anOmen_78 : decode cX6_anOmen 78 = .ok (.sipush 1664, 3) := dk_17 6 128 (dk_at dksX6_anOmen_3 7 rfl rfl)
theorem dX6_anOmen_81 : decode cX6_anOmen 81 = .ok (.dup2, 1) := dk_92 (dk_at dksX6_anOmen_3 10 rfl rfl)
theorem dX6_anOmen_82 : decode cX6_anOmen 82 = .ok (.iaload, 1) := dk_46 (dk_at dksX6_anOmen_3 11 rfl rfl)
theorem dX6_anOmen_83 : decode cX6_anOmen 83 = .ok (.iconst 1, 1) := dk_4 (dk_at dksX6_anOmen_3 12 rfl rfl)
theorem dX6_anOmen_84 : decode cX6_anOmen 84 = .ok (.iadd, 1) := dk_96 (dk_at dksX6_anOmen_3 13 rfl rfl)
theorem dX6_anOmen_85 : decode cX6_anOmen 85 = .ok (.iastore, 1) := dk_79 (dk_at dksX6_anOmen_3 14 rfl rfl)
theorem dX6_anOmen_86 : decode cX6_anOmen 86 = .ok (.iconst 1, 1) := dk_4 (dk_at dksX6_anOmen_3 15 rfl rfl)
theorem dX6_anOmen_87 : decode cX6_anOmen 87 = .ok (.ireturn, 1) := dk_172 (dk_at dksX6_anOmen_3 16 rfl rfl)
abbrev cX6_newOne : ByteArray := prog_15_method_39_code
def yX6_newOne : MethodName := ⟨RX6, "newOne", "(III)Z"⟩
def dkwX6_newOne_4 : List UInt8 := [180, 0, 7, 17, 6, 128, 27, 96, 46, 96, 42, 182, 0, 167, 80, 42, 182, 0, 154, 4, 172]
abbrev dktX6_newOne_4 : List UInt8 := dkwX6_newOne_4 ++ []
def dkwX6_newOne_3 : List UInt8 := [46, 182, 0, 177, 2, 159, 0, 9, 42, 6, 182, 0, 160, 172, 42, 180, 0, 13, 16, 56, 29, 96, 42]
abbrev dktX6_newOne_3 : List UInt8 := dkwX6_newOne_3 ++ dktX6_newOne_4
def dkwX6_newOne_2 : List UInt8 := [180, 0, 7, 17, 6, 128, 46, 182, 0, 177, 2, 160, 0, 21, 42, 16, 62, 42, 180, 0, 7, 17, 6, 129]
abbrev dktX6_newOne_2 : List UInt8 := dkwX6_newOne_2 ++ dktX6_newOne_3
def dkwX6_newOne_1 : List UInt8 := [182, 0, 154, 42, 18, 171, 182, 0, 173, 154, 0, 9, 42, 5, 182, 0, 160, 172, 42, 16, 56, 42]
abbrev dktX6_newOne_1 : List UInt8 := dkwX6_newOne_1 ++ dktX6_newOne_2
def dkwX6_newOne_0 : List UInt8 := [42, 180, 0, 7, 17, 6, 128, 27, 96, 46, 28, 160, 0, 10, 42, 16, 6, 182, 0, 160, 172, 42]
abbrev dktX6_newOne_0 : List UInt8 := dkwX6_newOne_0 ++ dktX6_newOne_1
theorem dksX6_newOne_0 : cX6_newOne.data.toList.drop 0 = dktX6_newOne_0 := by decide +kernel
theorem dksX6_newOne_1 : cX6_newOne.data.toList.drop 22 = dktX6_newOne_1 := dk_seg dksX6_newOne_0 22 rfl rfl
theorem dksX6_newOne_2 : cX6_newOne.data.toList.drop 44 = dktX6_newOne_2 := dk_seg dksX6_newOne_1 22 rfl rfl
theorem dksX6_newOne_3 : cX6_newOne.data.toList.drop 68 = dktX6_newOne_3 := dk_seg dksX6_newOne_2 24 rfl rfl
theorem dksX6_newOne_4 : cX6_newOne.data.toList.drop 91 = dktX6_newOne_4 := dk_seg dksX6_newOne_3 23 rfl rfl
theorem dX6_newOne_0 : decode cX6_newOne 0 = .ok (.aload_n 0, 1) := dk_42 (dk_at dksX6_newOne_0 0 rfl rfl)
theorem dX6_newOne_1 : decode cX6_newOne 1 = .ok (.getfield 7, 3) := dk_180 0 7 (dk_at dksX6_newOne_0 1 rfl rfl)
theorem dX6_newOne_4 : decode cX6_newOne 4 = .ok (.sipush 1664, 3) := dk_17 6 128 (dk_at dksX6_newOne_0 4 rfl rfl)
theorem dX6_newOne_7 : decode cX6_newOne 7 = .ok (.iload_n 1, 1) := dk_27 (dk_at dksX6_newOne_0 7 rfl rfl)
theorem dX6_newOne_8 : decode cX6_newOne 8 = .ok (.iadd, 1) := dk_96 (dk_at dksX6_newOne_0 8 rfl rfl)
theorem dX6_newOne_9 : decode cX6_newOne 9 = .ok (.iaload, 1) := dk_46 (dk_at dksX6_newOne_0 9 rfl rfl)
theorem dX6_newOne_10 : decode cX6_newOne 10 = .ok (.iload_n 2, 1) := dk_28 (dk_at dksX6_newOne_0 10 rfl rfl)
theorem dX6_newOne_11 : decode cX6_newOne 11 = .ok (.if_icmp .ne 10, 3) := dk_160 0 10 (dk_at dksX6_newOne_0 11 rfl rfl)
theorem dX6_newOne_14 : decode cX6_newOne 14 = .ok (.aload_n 0, 1) := dk_42 (dk_at dksX6_newOne_0 14 rfl rfl)
theorem dX6_newOne_15 : decode cX6_newOne 15 = .ok (.bipush 6, 2) := dk_16 6 (dk_at dksX6_newOne_0 15 rfl rfl)
theorem dX6_newOne_17 : decode cX6_newOne 17 = .ok (.invokevirtual 160, 3) := dk_182 0 160 (dk_at dksX6_newOne_0 17 rfl rfl)
theorem dX6_newOne_20 : decode cX6_newOne 20 = .ok (.ireturn, 1) := dk_172 (dk_at dksX6_newOne_0 20 rfl rfl)
theorem dX6_newOne_21 : decode cX6_newOne 21 = .ok (.aload_n 0, 1) := dk_42 (dk_at dksX6_newOne_0 21 rfl rfl)
theorem dX6_newOne_22 : decode cX6_newOne 22 = .ok (.invokevirtual 154, 3) := dk_182 0 154 (dk_at dksX6_newOne_1 0 rfl rfl)
theorem dX6_newOne_25 : decode cX6_newOne 25 = .ok (.aload_n 0, 1) := dk_42 (dk_at dksX6_newOne_1 3 rfl rfl)
theorem dX6_newOne_26 : decode cX6_newOne 26 = .ok (.ldc 171, 2) := dk_18 171 (dk_at dksX6_newOne_1 4 rfl rfl)
theorem dX6_newOne_28 : decode cX6_newOne 28 = .ok (.invokevirtual 173, 3) := dk_182 0 173 (dk_at dksX6_newOne_1 6 rfl rfl)
theorem dX6_newOne_31 : decode cX6_newOne 31 = .ok (.ifCond .ne 9, 3) := dk_154 0 9 (dk_at dksX6_newOne_1 9 rfl rfl)
theorem dX6_newOne_34 : decode cX6_newOne 34 = .ok (.aload_n 0, 1) := dk_42 (dk_at dksX6_newOne_1 12 rfl rfl)
theorem dX6_newOne_35 : decode cX6_newOne 35 = .ok (.iconst 2, 1) := dk_5 (dk_at dksX6_newOne_1 13 rfl rfl)
theorem dX6_newOne_36 : decode cX6_newOne 36 = .ok (.invokevirtual 160, 3) := dk_182 0 160 (dk_at dksX6_newOne_1 14 rfl rfl)
theorem dX6_newOne_39 : decode cX6_newOne 39 = .ok (.ireturn, 1) := dk_172 (dk_at dksX6_newOne_1 17 rfl rfl)
theorem dX6_newOne_40 : decode cX6_newOne 40 = .ok (.aload_n 0, 1) := dk_42 (dk_at dksX6_newOne_1 18 rfl rfl)
theorem dX6_newOne_41 : decode cX6_newOne 41 = .ok (.bipush 56, 2) := dk_16 56 (dk_at dksX6_newOne_1 19 rfl rfl)
theorem dX6_newOne_43 : decode cX6_newOne 43 = .ok (.aload_n 0, 1) := dk_42 (dk_at dksX6_newOne_1 21 rfl rfl)
theorem dX6_newOne_44 : decode cX6_newOne 44 = .ok (.getfield 7, 3) := dk_180 0 7 (dk_at dksX6_newOne_2 0 rfl rfl)
theorem dX6_newOne_47 : decode cX6_newOne 47 = .ok (.sipush 1664, 3) := dk_17 6 128 (dk_at dksX6_newOne_2 3 rfl rfl)
theorem dX6_newOne_50 : decode cX6_newOne 50 = .ok (.iaload, 1) := dk_46 (dk_at dksX6_newOne_2 6 rfl rfl)
theorem dX6_newOne_51 : decode cX6_newOne 51 = .ok (.invokevirtual 177, 3) := dk_182 0 177 (dk_at dksX6_newOne_2 7 rfl rfl)
theorem dX6_newOne_54 : decode cX6_newOne 54 = .ok (.iconst (-1), 1) := dk_2 (dk_at dksX6_newOne_2 10 rfl rfl)
theorem dX6_newOne_55 : decode cX6_newOne 55 = .ok (.if_icmp .ne 21, 3) := dk_160 0 21 (dk_at dksX6_newOne_2 11 rfl rfl)
theorem dX6_newOne_58 : decode cX6_newOne 58 = .ok (.aload_n 0, 1) := dk_42 (dk_at dksX6_newOne_2 14 rfl rfl)
theorem dX6_newOne_59 : decode cX6_newOne 59 = .ok (.bipush 62, 2) := dk_16 62 (dk_at dksX6_newOne_2 15 rfl rfl)
theorem dX6_newOne_61 : decode cX6_newOne 61 = .ok (.aload_n 0, 1) := dk_42 (dk_at dksX6_newOne_2 17 rfl rfl)
theorem dX6_newOne_62 : decode cX6_newOne 62 = .ok (.getfield 7, 3) := dk_180 0 7 (dk_at dksX6_newOne_2 18 rfl rfl)
theorem dX6_newOne_65 : decode cX6_newOne 65 = .ok (.sipush 1665, 3) := dk_17 6 129 (dk_at dksX6_newOne_2 21 rfl rfl)
theorem dX6_newOne_68 : decode cX6_newOne 68 = .ok (.iaload, 1) := dk_46 (dk_at dksX6_newOne_3 0 rfl rfl)
theorem dX6_newOne_69 : decode cX6_newOne 69 = .ok (.invokevirtual 177, 3) := dk_182 0 177 (dk_at dksX6_newOne_3 1 rfl rfl)
theorem dX6_newOne_72 : decode cX6_newOne 72 = .ok (.iconst (-1), 1) := dk_2 (dk_at dksX6_newOne_3 4 rfl rfl)
theorem dX6_newOne_73 : decode cX6_newOne 73 = .ok (.if_icmp .eq 9, 3) := dk_159 0 9 (dk_at dksX6_newOne_3 5 rfl rfl)
theorem dX6_newOne_76 : decode cX6_newOne 76 = .ok (.aload_n 0, 1) := dk_42 (dk_at dksX6_newOne_3 8 rfl rfl)
theorem dX6_newOne_77 : decode cX6_newOne 77 = .ok (.iconst 3, 1) := dk_6 (dk_at dksX6_newOne_3 9 rfl rfl)
theorem dX6_newOne_78 : decode cX6_newOne 78 = .ok (.invokevirtual 160, 3) := dk_182 0 160 (dk_at dksX6_newOne_3 10 rfl rfl)
theorem dX6_newOne_81 : decode cX6_newOne 81 = .ok (.ireturn, 1) := dk_172 (dk_at dksX6_newOne_3 13 rfl rfl)
theorem dX6_newOne_82 : decode cX6_newOne 82 = .ok (.aload_n 0, 1) := dk_42 (dk_at dksX6_newOne_3 14 rfl rfl)
theorem dX6_newOne_83 : decode cX6_newOne 83 = .ok (.getfield 13, 3) := dk_180 0 13 (dk_at dksX6_newOne_3 15 rfl rfl)
theorem dX6_newOne_86 : decode cX6_newOne 86 = .ok (.bipush 56, 2) := dk_16 56 (dk_at dksX6_newOne_3 18 rfl rfl)
theorem dX6_newOne_88 : decode cX6_newOne 88 = .ok (.iload_n 3, 1) := dk_29 (dk_at dksX6_newOne_3 20 rfl rfl)
theorem dX6_newOne_89 : decode cX6_newOne 89 = .ok (.iadd, 1) := dk_96 (dk_at dksX6_newOne_3 21 rfl rfl)
theorem dX6_newOne_90 : decode cX6_newOne 90 = .ok (.aload_n 0, 1) := dk_42 (dk_at dksX6_newOne_3 22 rfl rfl)
theorem dX6_newOne_91 : decode cX6_newOne 91 = .ok (.getfield 7, 3) := dk_180 0 7 (dk_at dksX6_newOne_4 0 rfl rfl)
theorem dX6_newOne_94 : decode cX6_newOne 94 = .ok (.sipush 1664, 3) := dk_17 6 128 (dk_at dksX6_newOne_4 3 rfl rfl)
theorem dX6_newOne_97 : decode cX6_newOne 97 = .ok (.iload_n 1, 1) := dk_27 (dk_at dksX6_newOne_4 6 rfl rfl)
theorem dX6_newOne_98 : decode cX6_newOne 98 = .ok (.iadd, 1) := dk_96 (dk_at dksX6_newOne_4 7 rfl rfl)
theorem dX6_newOne_99 : decode cX6_newOne 99 = .ok (.iaload, 1) := dk_46 (dk_at dksX6_newOne_4 8 rfl rfl)
theorem dX6_newOne_100 : decode cX6_newOne 100 = .ok (.iadd, 1) := dk_96 (dk_at dksX6_newOne_4 9 rfl rfl)
theorem dX6_newOne_101 : decode cX6_newOne 101 = .ok (.aload_n 0, 1) := dk_42 (dk_at dksX6_newOne_4 10 rfl rfl)
theorem dX6_newOne_102 : decode cX6_newOne 102 = .ok (.invokevirtual 167, 3) := dk_182 0 167 (dk_at dksX6_newOne_4 11 rfl rfl)
theorem dX6_newOne_105 : decode cX6_newOne 105 = .ok (.lastore, 1) := dk_80 (dk_at dksX6_newOne_4 14 rfl rfl)
theorem dX6_newOne_106 : decode cX6_newOne 106 = .ok (.aload_n 0, 1) := dk_42 (dk_at dksX6_newOne_4 15 rfl rfl)
theorem dX6_newOne_107 : decode cX6_newOne 107 = .ok (.invokevirtual 154, 3) := dk_182 0 154 (dk_at dksX6_newOne_4 16 rfl rfl)
theorem dX6_newOne_110 : decode cX6_newOne 110 = .ok (.iconst 1, 1) := dk_4 (dk_at dksX6_newOne_4 19 rfl rfl)
theorem dX6_newOne_111 : decode cX6_newOne 111 = .ok (.ireturn, 1) := dk_172 (dk_at dksX6_newOne_4 20 rfl rfl)
abbrev cX6_isName : ByteArray := prog_15_method_32_code
def yX6_isName : MethodName := ⟨RX6, "isName", "(Ljava/lang/String;)Z"⟩
def dkwX6_isName_1 : List UInt8 := [182, 0, 163, 2, 160, 0, 7, 4, 167, 0, 4, 3, 172]
abbrev dktX6_isName_1 : List UInt8 := dkwX6_isName_1 ++ []
def dkwX6_isName_0 : List UInt8 := [42, 180, 0, 123, 5, 160, 0, 30, 42, 180, 0, 111, 42, 180, 0, 117, 100, 16, 8, 163, 0, 16, 42, 43]
abbrev dktX6_isName_0 : List UInt8 := dkwX6_isName_0 ++ dktX6_isName_1
theorem dksX6_isName_0 : cX6_isName.data.toList.drop 0 = dktX6_isName_0 := by decide +kernel
theorem dksX6_isName_1 : cX6_isName.data.toList.drop 24 = dktX6_isName_1 := dk_seg dksX6_isName_0 24 rfl rfl
theorem dX6_isName_0 : decode cX6_isName 0 = .ok (.aload_n 0, 1) := dk_42 (dk_at dksX6_isName_0 0 rfl rfl)
theorem dX6_isName_1 : decode cX6_isName 1 = .ok (.getfield 123, 3) := dk_180 0 123 (dk_at dksX6_isName_0 1 rfl rfl)
theorem dX6_isName_4 : decode cX6_isName 4 = .ok (.iconst 2, 1) := dk_5 (dk_at dksX6_isName_0 4 rfl rfl)
theorem dX6_isName_5 : decode cX6_isName 5 = .ok (.if_icmp .ne 30, 3) := dk_160 0 30 (dk_at dksX6_isName_0 5 rfl rfl)
theorem dX6_isName_8 : decode cX6_isName 8 = .ok (.aload_n 0, 1) := dk_42 (dk_at dksX6_isName_0 8 rfl rfl)
theorem dX6_isName_9 : decode cX6_isName 9 = .ok (.getfield 111, 3) := dk_180 0 111 (dk_at dksX6_isName_0 9 rfl rfl)
theorem dX6_isName_12 : decode cX6_isName 12 = .ok (.aload_n 0, 1) := dk_42 (dk_at dksX6_isName_0 12 rfl rfl)
theorem dX6_isName_13 : decode cX6_isName 13 = .ok (.getfield 117, 3) := dk_180 0 117 (dk_at dksX6_isName_0 13 rfl rfl)
theorem dX6_isName_16 : decode cX6_isName 16 = .ok (.isub, 1) := dk_100 (dk_at dksX6_isName_0 16 rfl rfl)
theorem dX6_isName_17 : decode cX6_isName 17 = .ok (.bipush 8, 2) := dk_16 8 (dk_at dksX6_isName_0 17 rfl rfl)
theorem dX6_isName_19 : decode cX6_isName 19 = .ok (.if_icmp .gt 16, 3) := dk_163 0 16 (dk_at dksX6_isName_0 19 rfl rfl)
theorem dX6_isName_22 : decode cX6_isName 22 = .ok (.aload_n 0, 1) := dk_42 (dk_at dksX6_isName_0 22 rfl rfl)
theorem dX6_isName_23 : decode cX6_isName 23 = .ok (.aload_n 1, 1) := dk_43 (dk_at dksX6_isName_0 23 rfl rfl)
theorem dX6_isName_24 : decode cX6_isName 24 = .ok (.invokevirtual 163, 3) := dk_182 0 163 (dk_at dksX6_isName_1 0 rfl rfl)
theorem dX6_isName_27 : decode cX6_isName 27 = .ok (.iconst (-1), 1) := dk_2 (dk_at dksX6_isName_1 3 rfl rfl)
theorem dX6_isName_28 : decode cX6_isName 28 = .ok (.if_icmp .ne 7, 3) := dk_160 0 7 (dk_at dksX6_isName_1 4 rfl rfl)
theorem dX6_isName_31 : decode cX6_isName 31 = .ok (.iconst 1, 1) := dk_4 (dk_at dksX6_isName_1 7 rfl rfl)
theorem dX6_isName_32 : decode cX6_isName 32 = .ok (.goto 4, 3) := dk_167 0 4 (dk_at dksX6_isName_1 8 rfl rfl)
theorem dX6_isName_35 : decode cX6_isName 35 = .ok (.iconst 0, 1) := dk_3 (dk_at dksX6_isName_1 11 rfl rfl)
theorem dX6_isName_36 : decode cX6_isName 36 = .ok (.ireturn, 1) := dk_172 (dk_at dksX6_isName_1 12 rfl rfl)
abbrev cX6_findHere : ByteArray := prog_15_method_34_code
def yX6_findHere : MethodName := ⟨RX6, "findHere", "(II)I"⟩
def dkwX6_findHere_1 : List UInt8 := [172, 132, 3, 1, 167, 255, 230, 2, 172]
abbrev dktX6_findHere_1 : List UInt8 := dkwX6_findHere_1 ++ []
def dkwX6_findHere_0 : List UInt8 := [3, 62, 29, 28, 162, 0, 27, 42, 180, 0, 13, 27, 29, 96, 47, 42, 182, 0, 167, 148, 154, 0, 5, 29]
abbrev dktX6_findHere_0 : List UInt8 := dkwX6_findHere_0 ++ dktX6_findHere_1
theorem dksX6_findHere_0 : cX6_findHere.data.toList.drop 0 = dktX6_findHere_0 := by decide +kernel
theorem dksX6_findHere_1 : cX6_findHere.data.toList.drop 24 = dktX6_findHere_1 := dk_seg dksX6_findHere_0 24 rfl rfl
theorem dX6_findHere_0 : decode cX6_findHere 0 = .ok (.iconst 0, 1) := dk_3 (dk_at dksX6_findHere_0 0 rfl rfl)
theorem dX6_findHere_1 : decode cX6_findHere 1 = .ok (.istore_n 3, 1) := dk_62 (dk_at dksX6_findHere_0 1 rfl rfl)
theorem dX6_findHere_2 : decode cX6_findHere 2 = .ok (.iload_n 3, 1) := dk_29 (dk_at dksX6_findHere_0 2 rfl rfl)
theorem dX6_findHere_3 : decode cX6_findHere 3 = .ok (.iload_n 2, 1) := dk_28 (dk_at dksX6_findHere_0 3 rfl rfl)
theorem dX6_findHere_4 : decode cX6_findHere 4 = .ok (.if_icmp .ge 27, 3) := dk_162 0 27 (dk_at dksX6_findHere_0 4 rfl rfl)
theorem dX6_findHere_7 : decode cX6_findHere 7 = .ok (.aload_n 0, 1) := dk_42 (dk_at dksX6_findHere_0 7 rfl rfl)
theorem dX6_findHere_8 : decode cX6_findHere 8 = .ok (.getfield 13, 3) := dk_180 0 13 (dk_at dksX6_findHere_0 8 rfl rfl)
theorem dX6_findHere_11 : decode cX6_findHere 11 = .ok (.iload_n 1, 1) := dk_27 (dk_at dksX6_findHere_0 11 rfl rfl)
theorem dX6_findHere_12 : decode cX6_findHere 12 = .ok (.iload_n 3, 1) := dk_29 (dk_at dksX6_findHere_0 12 rfl rfl)
theorem dX6_findHere_13 : decode cX6_findHere 13 = .ok (.iadd, 1) := dk_96 (dk_at dksX6_findHere_0 13 rfl rfl)
theorem dX6_findHere_14 : decode cX6_findHere 14 = .ok (.laload, 1) := dk_47 (dk_at dksX6_findHere_0 14 rfl rfl)
theorem dX6_findHere_15 : decode cX6_findHere 15 = .ok (.aload_n 0, 1) := dk_42 (dk_at dksX6_findHere_0 15 rfl rfl)
theorem dX6_findHere_16 : decode cX6_findHere 16 = .ok (.invokevirtual 167, 3) := dk_182 0 167 (dk_at dksX6_findHere_0 16 rfl rfl)
theorem dX6_findHere_19 : decode cX6_findHere 19 = .ok (.lcmp, 1) := dk_148 (dk_at dksX6_findHere_0 19 rfl rfl)
theorem dX6_findHere_20 : decode cX6_findHere 20 = .ok (.ifCond .ne 5, 3) := dk_154 0 5 (dk_at dksX6_findHere_0 20 rfl rfl)
theorem dX6_findHere_23 : decode cX6_findHere 23 = .ok (.iload_n 3, 1) := dk_29 (dk_at dksX6_findHere_0 23 rfl rfl)
theorem dX6_findHere_24 : decode cX6_findHere 24 = .ok (.ireturn, 1) := dk_172 (dk_at dksX6_findHere_1 0 rfl rfl)
theorem dX6_findHere_25 : decode cX6_findHere 25 = .ok (.iinc 3 1, 3) := dk_132 3 1 (dk_at dksX6_findHere_1 1 rfl rfl)
theorem dX6_findHere_28 : decode cX6_findHere 28 = .ok (.goto (-26), 3) := dk_167 255 230 (dk_at dksX6_findHere_1 4 rfl rfl)
theorem dX6_findHere_31 : decode cX6_findHere 31 = .ok (.iconst (-1), 1) := dk_2 (dk_at dksX6_findHere_1 7 rfl rfl)
theorem dX6_findHere_32 : decode cX6_findHere 32 = .ok (.ireturn, 1) := dk_172 (dk_at dksX6_findHere_1 8 rfl rfl)
abbrev cX6_nameHere : ByteArray := prog_15_method_33_code
def yX6_nameHere : MethodName := ⟨RX6, "nameHere", "()J"⟩
def dkwX6_nameHere_1 : List UInt8 := [133, 129, 64, 132, 3, 1, 167, 255, 233, 31, 173]
abbrev dktX6_nameHere_1 : List UInt8 := dkwX6_nameHere_1 ++ []
def dkwX6_nameHere_0 : List UInt8 := [9, 64, 42, 180, 0, 117, 62, 29, 42, 180, 0, 111, 162, 0, 21, 31, 16, 8, 121, 42, 29, 182, 0, 114]
abbrev dktX6_nameHere_0 : List UInt8 := dkwX6_nameHere_0 ++ dktX6_nameHere_1
theorem dksX6_nameHere_0 : cX6_nameHere.data.toList.drop 0 = dktX6_nameHere_0 := by decide +kernel
theorem dksX6_nameHere_1 : cX6_nameHere.data.toList.drop 24 = dktX6_nameHere_1 := dk_seg dksX6_nameHere_0 24 rfl rfl
theorem dX6_nameHere_0 : decode cX6_nameHere 0 = .ok (.lconst 0, 1) := dk_9 (dk_at dksX6_nameHere_0 0 rfl rfl)
theorem dX6_nameHere_1 : decode cX6_nameHere 1 = .ok (.lstore_n 1, 1) := dk_64 (dk_at dksX6_nameHere_0 1 rfl rfl)
theorem dX6_nameHere_2 : decode cX6_nameHere 2 = .ok (.aload_n 0, 1) := dk_42 (dk_at dksX6_nameHere_0 2 rfl rfl)
theorem dX6_nameHere_3 : decode cX6_nameHere 3 = .ok (.getfield 117, 3) := dk_180 0 117 (dk_at dksX6_nameHere_0 3 rfl rfl)
theorem dX6_nameHere_6 : decode cX6_nameHere 6 = .ok (.istore_n 3, 1) := dk_62 (dk_at dksX6_nameHere_0 6 rfl rfl)
theorem dX6_nameHere_7 : decode cX6_nameHere 7 = .ok (.iload_n 3, 1) := dk_29 (dk_at dksX6_nameHere_0 7 rfl rfl)
theorem dX6_nameHere_8 : decode cX6_nameHere 8 = .ok (.aload_n 0, 1) := dk_42 (dk_at dksX6_nameHere_0 8 rfl rfl)
theorem dX6_nameHere_9 : decode cX6_nameHere 9 = .ok (.getfield 111, 3) := dk_180 0 111 (dk_at dksX6_nameHere_0 9 rfl rfl)
theorem dX6_nameHere_12 : decode cX6_nameHere 12 = .ok (.if_icmp .ge 21, 3) := dk_162 0 21 (dk_at dksX6_nameHere_0 12 rfl rfl)
theorem dX6_nameHere_15 : decode cX6_nameHere 15 = .ok (.lload_n 1, 1) := dk_31 (dk_at dksX6_nameHere_0 15 rfl rfl)
theorem dX6_nameHere_16 : decode cX6_nameHere 16 = .ok (.bipush 8, 2) := dk_16 8 (dk_at dksX6_nameHere_0 16 rfl rfl)
theorem dX6_nameHere_18 : decode cX6_nameHere 18 = .ok (.lshl, 1) := dk_121 (dk_at dksX6_nameHere_0 18 rfl rfl)
theorem dX6_nameHere_19 : decode cX6_nameHere 19 = .ok (.aload_n 0, 1) := dk_42 (dk_at dksX6_nameHere_0 19 rfl rfl)
theorem dX6_nameHere_20 : decode cX6_nameHere 20 = .ok (.iload_n 3, 1) := dk_29 (dk_at dksX6_nameHere_0 20 rfl rfl)
theorem dX6_nameHere_21 : decode cX6_nameHere 21 = .ok (.invokevirtual 114, 3) := dk_182 0 114 (dk_at dksX6_nameHere_0 21 rfl rfl)
theorem dX6_nameHere_24 : decode cX6_nameHere 24 = .ok (.i2l, 1) := dk_133 (dk_at dksX6_nameHere_1 0 rfl rfl)
theorem dX6_nameHere_25 : decode cX6_nameHere 25 = .ok (.lor, 1) := dk_129 (dk_at dksX6_nameHere_1 1 rfl rfl)
theorem dX6_nameHere_26 : decode cX6_nameHere 26 = .ok (.lstore_n 1, 1) := dk_64 (dk_at dksX6_nameHere_1 2 rfl rfl)
theorem dX6_nameHere_27 : decode cX6_nameHere 27 = .ok (.iinc 3 1, 3) := dk_132 3 1 (dk_at dksX6_nameHere_1 3 rfl rfl)
theorem dX6_nameHere_30 : decode cX6_nameHere 30 = .ok (.goto (-23), 3) := dk_167 255 233 (dk_at dksX6_nameHere_1 6 rfl rfl)
theorem dX6_nameHere_33 : decode cX6_nameHere 33 = .ok (.lload_n 1, 1) := dk_31 (dk_at dksX6_nameHere_1 9 rfl rfl)
theorem dX6_nameHere_34 : decode cX6_nameHere 34 = .ok (.lreturn, 1) := dk_173 (dk_at dksX6_nameHere_1 10 rfl rfl)
abbrev cX6_wantWord : ByteArray := prog_15_method_30_code
def yX6_wantWord : MethodName := ⟨RX6, "wantWord", "(Ljava/lang/String;I)Z"⟩
def dkwX6_wantWord_0 : List UInt8 := [42, 43, 182, 0, 163, 28, 159, 0, 9, 42, 5, 182, 0, 160, 172, 42, 182, 0, 154, 4, 172]
abbrev dktX6_wantWord_0 : List UInt8 := dkwX6_wantWord_0 ++ []
theorem dksX6_wantWord_0 : cX6_wantWord.data.toList.drop 0 = dktX6_wantWord_0 := by decide +kernel
theorem dX6_wantWord_0 : decode cX6_wantWord 0 = .ok (.aload_n 0, 1) := dk_42 (dk_at dksX6_wantWord_0 0 rfl rfl)
theorem dX6_wantWord_1 : decode cX6_wantWord 1 = .ok (.aload_n 1, 1) := dk_43 (dk_at dksX6_wantWord_0 1 rfl rfl)
theorem dX6_wantWord_2 : decode cX6_wantWord 2 = .ok (.invokevirtual 163, 3) := dk_182 0 163 (dk_at dksX6_wantWord_0 2 rfl rfl)
theorem dX6_wantWord_5 : decode cX6_wantWord 5 = .ok (.iload_n 2, 1) := dk_28 (dk_at dksX6_wantWord_0 5 rfl rfl)
theorem dX6_wantWord_6 : decode cX6_wantWord 6 = .ok (.if_icmp .eq 9, 3) := dk_159 0 9 (dk_at dksX6_wantWord_0 6 rfl rfl)
theorem dX6_wantWord_9 : decode cX6_wantWord 9 = .ok (.aload_n 0, 1) := dk_42 (dk_at dksX6_wantWord_0 9 rfl rfl)
theorem dX6_wantWord_10 : decode cX6_wantWord 10 = .ok (.iconst 2, 1) := dk_5 (dk_at dksX6_wantWord_0 10 rfl rfl)
theorem dX6_wantWord_11 : decode cX6_wantWord 11 = .ok (.invokevirtual 160, 3) := dk_182 0 160 (dk_at dksX6_wantWord_0 11 rfl rfl)
theorem dX6_wantWord_14 : decode cX6_wantWord 14 = .ok (.ireturn, 1) := dk_172 (dk_at dksX6_wantWord_0 14 rfl rfl)
theorem dX6_wantWord_15 : decode cX6_wantWord 15 = .ok (.aload_n 0, 1) := dk_42 (dk_at dksX6_wantWord_0 15 rfl rfl)
theorem dX6_wantWord_16 : decode cX6_wantWord 16 = .ok (.invokevirtual 154, 3) := dk_182 0 154 (dk_at dksX6_wantWord_0 16 rfl rfl)
theorem dX6_wantWord_19 : decode cX6_wantWord 19 = .ok (.iconst 1, 1) := dk_4 (dk_at dksX6_wantWord_0 19 rfl rfl)
theorem dX6_wantWord_20 : decode cX6_wantWord 20 = .ok (.ireturn, 1) := dk_172 (dk_at dksX6_wantWord_0 20 rfl rfl)
abbrev cX6_isThere : ByteArray := prog_15_method_38_code
def yX6_isThere : MethodName := ⟨RX6, "isThere", "(I)Z"⟩
def dkwX6_isThere_0 : List UInt8 := [42, 18, 171, 182, 0, 163, 27, 159, 0, 5, 3, 172, 42, 182, 0, 154, 4, 172]
abbrev dktX6_isThere_0 : List UInt8 := dkwX6_isThere_0 ++ []
theorem dksX6_isThere_0 : cX6_isThere.data.toList.drop 0 = dktX6_isThere_0 := by decide +kernel
theorem dX6_isThere_0 : decode cX6_isThere 0 = .ok (.aload_n 0, 1) := dk_42 (dk_at dksX6_isThere_0 0 rfl rfl)
theorem dX6_isThere_1 : decode cX6_isThere 1 = .ok (.ldc 171, 2) := dk_18 171 (dk_at dksX6_isThere_0 1 rfl rfl)
theorem dX6_isThere_3 : decode cX6_isThere 3 = .ok (.invokevirtual 163, 3) := dk_182 0 163 (dk_at dksX6_isThere_0 3 rfl rfl)
theorem dX6_isThere_6 : decode cX6_isThere 6 = .ok (.iload_n 1, 1) := dk_27 (dk_at dksX6_isThere_0 6 rfl rfl)
theorem dX6_isThere_7 : decode cX6_isThere 7 = .ok (.if_icmp .eq 5, 3) := dk_159 0 5 (dk_at dksX6_isThere_0 7 rfl rfl)
theorem dX6_isThere_10 : decode cX6_isThere 10 = .ok (.iconst 0, 1) := dk_3 (dk_at dksX6_isThere_0 10 rfl rfl)
theorem dX6_isThere_11 : decode cX6_isThere 11 = .ok (.ireturn, 1) := dk_172 (dk_at dksX6_isThere_0 11 rfl rfl)
theorem dX6_isThere_12 : decode cX6_isThere 12 = .ok (.aload_n 0, 1) := dk_42 (dk_at dksX6_isThere_0 12 rfl rfl)
theorem dX6_isThere_13 : decode cX6_isThere 13 = .ok (.invokevirtual 154, 3) := dk_182 0 154 (dk_at dksX6_isThere_0 13 rfl rfl)
theorem dX6_isThere_16 : decode cX6_isThere 16 = .ok (.iconst 1, 1) := dk_4 (dk_at dksX6_isThere_0 16 rfl rfl)
theorem dX6_isThere_17 : decode cX6_isThere 17 = .ok (.ireturn, 1) := dk_172 (dk_at dksX6_isThere_0 17 rfl rfl)
abbrev cX6_aPerson : ByteArray := prog_15_method_43_code
def yX6_aPerson : MethodName := ⟨RX6, "aPerson", "()Z"⟩
def dkwX6_aPerson_4 : List UInt8 := [96, 182, 0, 197, 154, 0, 5, 3, 172, 42, 180, 0, 7, 17, 6, 129, 92, 46, 4, 96, 79, 4, 172]
abbrev dktX6_aPerson_4 : List UInt8 := dkwX6_aPerson_4 ++ []
def dkwX6_aPerson_3 : List UInt8 := [153, 0, 9, 4, 27, 120, 167, 0, 4, 3, 128, 79, 42, 16, 10, 182, 0, 191, 153, 0, 15, 42, 28, 5]
abbrev dktX6_aPerson_3 : List UInt8 := dkwX6_aPerson_3 ++ dktX6_aPerson_4
def dkwX6_aPerson_2 : List UInt8 := [182, 0, 188, 154, 0, 5, 3, 172, 42, 180, 0, 7, 17, 6, 135, 92, 46, 42, 16, 9, 182, 0, 191]
abbrev dktX6_aPerson_2 : List UInt8 := dkwX6_aPerson_2 ++ dktX6_aPerson_3
def dkwX6_aPerson_1 : List UInt8 := [182, 0, 180, 153, 0, 25, 42, 18, 171, 16, 8, 182, 0, 184, 153, 0, 14, 42, 28, 3, 16, 9]
abbrev dktX6_aPerson_1 : List UInt8 := dkwX6_aPerson_1 ++ dktX6_aPerson_2
def dkwX6_aPerson_0 : List UInt8 := [42, 180, 0, 7, 17, 6, 129, 46, 60, 17, 6, 128, 27, 184, 0, 194, 96, 61, 42, 4, 16, 8, 16, 6]
abbrev dktX6_aPerson_0 : List UInt8 := dkwX6_aPerson_0 ++ dktX6_aPerson_1
theorem dksX6_aPerson_0 : cX6_aPerson.data.toList.drop 0 = dktX6_aPerson_0 := by decide +kernel
theorem dksX6_aPerson_1 : cX6_aPerson.data.toList.drop 24 = dktX6_aPerson_1 := dk_seg dksX6_aPerson_0 24 rfl rfl
theorem dksX6_aPerson_2 : cX6_aPerson.data.toList.drop 46 = dktX6_aPerson_2 := dk_seg dksX6_aPerson_1 22 rfl rfl
theorem dksX6_aPerson_3 : cX6_aPerson.data.toList.drop 69 = dktX6_aPerson_3 := dk_seg dksX6_aPerson_2 23 rfl rfl
theorem dksX6_aPerson_4 : cX6_aPerson.data.toList.drop 93 = dktX6_aPerson_4 := dk_seg dksX6_aPerson_3 24 rfl rfl
theorem dX6_aPerson_0 : decode cX6_aPerson 0 = .ok (.aload_n 0, 1) := dk_42 (dk_at dksX6_aPerson_0 0 rfl rfl)
theorem dX6_aPerson_1 : decode cX6_aPerson 1 = .ok (.getfield 7, 3) := dk_180 0 7 (dk_at dksX6_aPerson_0 1 rfl rfl)
theorem dX6_aPerson_4 : decode cX6_aPerson 4 = .ok (.sipush 1665, 3) := dk_17 6 129 (dk_at dksX6_aPerson_0 4 rfl rfl)
theorem dX6_aPerson_7 : decode cX6_aPerson 7 = .ok (.iaload, 1) := dk_46 (dk_at dksX6_aPerson_0 7 rfl rfl)
theorem dX6_aPerson_8 : decode cX6_aPerson 8 = .ok (.istore_n 1, 1) := dk_60 (dk_at dksX6_aPerson_0 8 rfl rfl)
theorem dX6_aPerson_9 : decode cX6_aPerson 9 = .ok (.sipush 1664, 3) := dk_17 6 128 (dk_at dksX6_aPerson_0 9 rfl rfl)
theorem dX6_aPerson_12 : decode cX6_aPerson 12 = .ok (.iload_n 1, 1) := dk_27 (dk_at dksX6_aPerson_0 12 rfl rfl)
theorem dX6_aPerson_13 : decode cX6_aPerson 13 = .ok (.invokestatic 194, 3) := dk_184 0 194 (dk_at dksX6_aPerson_0 13 rfl rfl)
theorem dX6_aPerson_16 : decode cX6_aPerson 16 = .ok (.iadd, 1) := dk_96 (dk_at dksX6_aPerson_0 16 rfl rfl)
theorem dX6_aPerson_17 : decode cX6_aPerson 17 = .ok (.istore_n 2, 1) := dk_61 (dk_at dksX6_aPerson_0 17 rfl rfl)
theorem dX6_aPerson_18 : decode cX6_aPerson 18 = .ok (.aload_n 0, 1) := dk_42 (dk_at dksX6_aPerson_0 18 rfl rfl)
theorem dX6_aPerson_19 : decode cX6_aPerson 19 = .ok (.iconst 1, 1) := dk_4 (dk_at dksX6_aPerson_0 19 rfl rfl)
theorem dX6_aPerson_20 : decode cX6_aPerson 20 = .ok (.bipush 8, 2) := dk_16 8 (dk_at dksX6_aPerson_0 20 rfl rfl)
theorem dX6_aPerson_22 : decode cX6_aPerson 22 = .ok (.bipush 6, 2) := dk_16 6 (dk_at dksX6_aPerson_0 22 rfl rfl)
theorem dX6_aPerson_24 : decode cX6_aPerson 24 = .ok (.invokevirtual 180, 3) := dk_182 0 180 (dk_at dksX6_aPerson_1 0 rfl rfl)
theorem dX6_aPerson_27 : decode cX6_aPerson 27 = .ok (.ifCond .eq 25, 3) := dk_153 0 25 (dk_at dksX6_aPerson_1 3 rfl rfl)
theorem dX6_aPerson_30 : decode cX6_aPerson 30 = .ok (.aload_n 0, 1) := dk_42 (dk_at dksX6_aPerson_1 6 rfl rfl)
theorem dX6_aPerson_31 : decode cX6_aPerson 31 = .ok (.ldc 171, 2) := dk_18 171 (dk_at dksX6_aPerson_1 7 rfl rfl)
theorem dX6_aPerson_33 : decode cX6_aPerson 33 = .ok (.bipush 8, 2) := dk_16 8 (dk_at dksX6_aPerson_1 9 rfl rfl)
theorem dX6_aPerson_35 : decode cX6_aPerson 35 = .ok (.invokevirtual 184, 3) := dk_182 0 184 (dk_at dksX6_aPerson_1 11 rfl rfl)
theorem dX6_aPerson_38 : decode cX6_aPerson 38 = .ok (.ifCond .eq 14, 3) := dk_153 0 14 (dk_at dksX6_aPerson_1 14 rfl rfl)
theorem dX6_aPerson_41 : decode cX6_aPerson 41 = .ok (.aload_n 0, 1) := dk_42 (dk_at dksX6_aPerson_1 17 rfl rfl)
theorem dX6_aPerson_42 : decode cX6_aPerson 42 = .ok (.iload_n 2, 1) := dk_28 (dk_at dksX6_aPerson_1 18 rfl rfl)
theorem dX6_aPerson_43 : decode cX6_aPerson 43 = .ok (.iconst 0, 1) := dk_3 (dk_at dksX6_aPerson_1 19 rfl rfl)
theorem dX6_aPerson_44 : decode cX6_aPerson 44 = .ok (.bipush 9, 2) := dk_16 9 (dk_at dksX6_aPerson_1 20 rfl rfl)
theorem dX6_aPerson_46 : decode cX6_aPerson 46 = .ok (.invokevirtual 188, 3) := dk_182 0 188 (dk_at dksX6_aPerson_2 0 rfl rfl)
theorem dX6_aPerson_49 : decode cX6_aPerson 49 = .ok (.ifCond .ne 5, 3) := dk_154 0 5 (dk_at dksX6_aPerson_2 3 rfl rfl)
theorem dX6_aPerson_52 : decode cX6_aPerson 52 = .ok (.iconst 0, 1) := dk_3 (dk_at dksX6_aPerson_2 6 rfl rfl)
theorem dX6_aPerson_53 : decode cX6_aPerson 53 = .ok (.ireturn, 1) := dk_172 (dk_at dksX6_aPerson_2 7 rfl rfl)
theorem dX6_aPerson_54 : decode cX6_aPerson 54 = .ok (.aload_n 0, 1) := dk_42 (dk_at dksX6_aPerson_2 8 rfl rfl)
theorem dX6_aPerson_55 : decode cX6_aPerson 55 = .ok (.getfield 7, 3) := dk_180 0 7 (dk_at dksX6_aPerson_2 9 rfl rfl)
theorem dX6_aPerson_58 : decode cX6_aPerson 58 = .ok (.sipush 1671, 3) := dk_17 6 135 (dk_at dksX6_aPerson_2 12 rfl rfl)
theorem dX6_aPerson_61 : decode cX6_aPerson 61 = .ok (.dup2, 1) := dk_92 (dk_at dksX6_aPerson_2 15 rfl rfl)
theorem dX6_aPerson_62 : decode cX6_aPerson 62 = .ok (.iaload, 1) := dk_46 (dk_at dksX6_aPerson_2 16 rfl rfl)
theorem dX6_aPerson_63 : decode cX6_aPerson 63 = .ok (.aload_n 0, 1) := dk_42 (dk_at dksX6_aPerson_2 17 rfl rfl)
theorem dX6_aPerson_64 : decode cX6_aPerson 64 = .ok (.bipush 9, 2) := dk_16 9 (dk_at dksX6_aPerson_2 18 rfl rfl)
theorem dX6_aPerson_66 : decode cX6_aPerson 66 = .ok (.invokevirtual 191, 3) := dk_182 0 191 (dk_at dksX6_aPerson_2 20 rfl rfl)
theorem dX6_aPerson_69 : decode cX6_aPerson 69 = .ok (.ifCond .eq 9, 3) := dk_153 0 9 (dk_at dksX6_aPerson_3 0 rfl rfl)
theorem dX6_aPerson_72 : decode cX6_aPerson 72 = .ok (.iconst 1, 1) := dk_4 (dk_at dksX6_aPerson_3 3 rfl rfl)
theorem dX6_aPerson_73 : decode cX6_aPerson 73 = .ok (.iload_n 1, 1) := dk_27 (dk_at dksX6_aPerson_3 4 rfl rfl)
theorem dX6_aPerson_74 : decode cX6_aPerson 74 = .ok (.ishl, 1) := dk_120 (dk_at dksX6_aPerson_3 5 rfl rfl)
theorem dX6_aPerson_75 : decode cX6_aPerson 75 = .ok (.goto 4, 3) := dk_167 0 4 (dk_at dksX6_aPerson_3 6 rfl rfl)
theorem dX6_aPerson_78 : decode cX6_aPerson 78 = .ok (.iconst 0, 1) := dk_3 (dk_at dksX6_aPerson_3 9 rfl rfl)
theorem dX6_aPerson_79 : decode cX6_aPerson 79 = .ok (.ior, 1) := dk_128 (dk_at dksX6_aPerson_3 10 rfl rfl)
theorem dX6_aPerson_80 : decode cX6_aPerson 80 = .ok (.iastore, 1) := dk_79 (dk_at dksX6_aPerson_3 11 rfl rfl)
theorem dX6_aPerson_81 : decode cX6_aPerson 81 = .ok (.aload_n 0, 1) := dk_42 (dk_at dksX6_aPerson_3 12 rfl rfl)
theorem dX6_aPerson_82 : decode cX6_aPerson 82 = .ok (.bipush 10, 2) := dk_16 10 (dk_at dksX6_aPerson_3 13 rfl rfl)
theorem dX6_aPerson_84 : decode cX6_aPerson 84 = .ok (.invokevirtual 191, 3) := dk_182 0 191 (dk_at dksX6_aPerson_3 15 rfl rfl)
theorem dX6_aPerson_87 : decode cX6_aPerson 87 = .ok (.ifCond .eq 15, 3) := dk_153 0 15 (dk_at dksX6_aPerson_3 18 rfl rfl)
theorem dX6_aPerson_90 : decode cX6_aPerson 90 = .ok (.aload_n 0, 1) := dk_42 (dk_at dksX6_aPerson_3 21 rfl rfl)
theorem dX6_aPerson_91 : decode cX6_aPerson 91 = .ok (.iload_n 2, 1) := dk_28 (dk_at dksX6_aPerson_3 22 rfl rfl)
theorem dX6_aPerson_92 : decode cX6_aPerson 92 = .ok (.iconst 2, 1) := dk_5 (dk_at dksX6_aPerson_3 23 rfl rfl)
theorem dX6_aPerson_93 : decode cX6_aPerson 93 = .ok (.iadd, 1) := dk_96 (dk_at dksX6_aPerson_4 0 rfl rfl)
theorem dX6_aPerson_94 : decode cX6_aPerson 94 = .ok (.invokevirtual 197, 3) := dk_182 0 197 (dk_at dksX6_aPerson_4 1 rfl rfl)
theorem dX6_aPerson_97 : decode cX6_aPerson 97 = .ok (.ifCond .ne 5, 3) := dk_154 0 5 (dk_at dksX6_aPerson_4 4 rfl rfl)
theorem dX6_aPerson_100 : decode cX6_aPerson 100 = .ok (.iconst 0, 1) := dk_3 (dk_at dksX6_aPerson_4 7 rfl rfl)
theorem dX6_aPerson_101 : decode cX6_aPerson 101 = .ok (.ireturn, 1) := dk_172 (dk_at dksX6_aPerson_4 8 rfl rfl)
theorem dX6_aPerson_102 : decode cX6_aPerson 102 = .ok (.aload_n 0, 1) := dk_42 (dk_at dksX6_aPerson_4 9 rfl rfl)
theorem dX6_aPerson_103 : decode cX6_aPerson 103 = .ok (.getfield 7, 3) := dk_180 0 7 (dk_at dksX6_aPerson_4 10 rfl rfl)
theorem dX6_aPerson_106 : decode cX6_aPerson 106 = .ok (.sipush 1665, 3) := dk_17 6 129 (dk_at dksX6_aPerson_4 13 rfl rfl)
theorem dX6_aPerson_109 : decode cX6_aPerson 109 = .ok (.dup2, 1) := dk_92 (dk_at dksX6_aPerson_4 16 rfl rfl)
theorem dX6_aPerson_110 : decode cX6_aPerson 110 = .ok (.iaload, 1) := dk_46 (dk_at dksX6_aPerson_4 17 rfl rfl)
theorem dX6_aPerson_111 : decode cX6_aPerson 111 = .ok (.iconst 1, 1) := dk_4 (dk_at dksX6_aPerson_4 18 rfl rfl)
theorem dX6_aPerson_112 : decode cX6_aPerson 112 = .ok (.iadd, 1) := dk_96 (dk_at dksX6_aPerson_4 19 rfl rfl)
theorem dX6_aPerson_113 : decode cX6_aPerson 113 = .ok (.iastore, 1) := dk_79 (dk_at dksX6_aPerson_4 20 rfl rfl)
theorem dX6_aPerson_114 : decode cX6_aPerson 114 = .ok (.iconst 1, 1) := dk_4 (dk_at dksX6_aPerson_4 21 rfl rfl)
theorem dX6_aPerson_115 : decode cX6_aPerson 115 = .ok (.ireturn, 1) := dk_172 (dk_at dksX6_aPerson_4 22 rfl rfl)
abbrev cX6_personRow : ByteArray := prog_15_method_37_code
def yX6_personRow : MethodName := ⟨RX6, "personRow", "(I)I"⟩
def dkwX6_personRow_0 : List UInt8 := [16, 16, 7, 26, 104, 96, 172]
abbrev dktX6_personRow_0 : List UInt8 := dkwX6_personRow_0 ++ []
theorem dksX6_personRow_0 : cX6_personRow.data.toList.drop 0 = dktX6_personRow_0 := by decide +kernel
theorem dX6_personRow_0 : decode cX6_personRow 0 = .ok (.bipush 16, 2) := dk_16 16 (dk_at dksX6_personRow_0 0 rfl rfl)
theorem dX6_personRow_2 : decode cX6_personRow 2 = .ok (.iconst 4, 1) := dk_7 (dk_at dksX6_personRow_0 2 rfl rfl)
theorem dX6_personRow_3 : decode cX6_personRow 3 = .ok (.iload_n 0, 1) := dk_26 (dk_at dksX6_personRow_0 3 rfl rfl)
theorem dX6_personRow_4 : decode cX6_personRow 4 = .ok (.imul, 1) := dk_104 (dk_at dksX6_personRow_0 4 rfl rfl)
theorem dX6_personRow_5 : decode cX6_personRow 5 = .ok (.iadd, 1) := dk_96 (dk_at dksX6_personRow_0 5 rfl rfl)
theorem dX6_personRow_6 : decode cX6_personRow 6 = .ok (.ireturn, 1) := dk_172 (dk_at dksX6_personRow_0 6 rfl rfl)
abbrev cX6_excuses : ByteArray := prog_15_method_42_code
def yX6_excuses : MethodName := ⟨RX6, "excuses", "(I)Z"⟩
def dkwX6_excuses_3 : List UInt8 := [28, 79, 4, 172]
abbrev dktX6_excuses_3 : List UInt8 := dkwX6_excuses_3 ++ []
def dkwX6_excuses_2 : List UInt8 := [42, 8, 182, 0, 160, 172, 28, 4, 29, 120, 128, 61, 42, 182, 0, 154, 167, 255, 196, 42, 180, 0, 7, 27]
abbrev dktX6_excuses_2 : List UInt8 := dkwX6_excuses_2 ++ dktX6_excuses_3
def dkwX6_excuses_1 : List UInt8 := [182, 0, 177, 62, 29, 2, 160, 0, 9, 42, 6, 182, 0, 160, 172, 28, 29, 122, 4, 126, 4, 160, 0, 9]
abbrev dktX6_excuses_1 : List UInt8 := dkwX6_excuses_1 ++ dktX6_excuses_2
def dkwX6_excuses_0 : List UInt8 := [3, 61, 42, 18, 171, 182, 0, 173, 153, 0, 57, 42, 16, 56, 42, 180, 0, 7, 17, 6, 128, 46]
abbrev dktX6_excuses_0 : List UInt8 := dkwX6_excuses_0 ++ dktX6_excuses_1
theorem dksX6_excuses_0 : cX6_excuses.data.toList.drop 0 = dktX6_excuses_0 := by decide +kernel
theorem dksX6_excuses_1 : cX6_excuses.data.toList.drop 22 = dktX6_excuses_1 := dk_seg dksX6_excuses_0 22 rfl rfl
theorem dksX6_excuses_2 : cX6_excuses.data.toList.drop 46 = dktX6_excuses_2 := dk_seg dksX6_excuses_1 24 rfl rfl
theorem dksX6_excuses_3 : cX6_excuses.data.toList.drop 70 = dktX6_excuses_3 := dk_seg dksX6_excuses_2 24 rfl rfl
theorem dX6_excuses_0 : decode cX6_excuses 0 = .ok (.iconst 0, 1) := dk_3 (dk_at dksX6_excuses_0 0 rfl rfl)
theorem dX6_excuses_1 : decode cX6_excuses 1 = .ok (.istore_n 2, 1) := dk_61 (dk_at dksX6_excuses_0 1 rfl rfl)
theorem dX6_excuses_2 : decode cX6_excuses 2 = .ok (.aload_n 0, 1) := dk_42 (dk_at dksX6_excuses_0 2 rfl rfl)
theorem dX6_excuses_3 : decode cX6_excuses 3 = .ok (.ldc 171, 2) := dk_18 171 (dk_at dksX6_excuses_0 3 rfl rfl)
theorem dX6_excuses_5 : decode cX6_excuses 5 = .ok (.invokevirtual 173, 3) := dk_182 0 173 (dk_at dksX6_excuses_0 5 rfl rfl)
theorem dX6_excuses_8 : decode cX6_excuses 8 = .ok (.ifCond .eq 57, 3) := dk_153 0 57 (dk_at dksX6_excuses_0 8 rfl rfl)
theorem dX6_excuses_11 : decode cX6_excuses 11 = .ok (.aload_n 0, 1) := dk_42 (dk_at dksX6_excuses_0 11 rfl rfl)
theorem dX6_excuses_12 : decode cX6_excuses 12 = .ok (.bipush 56, 2) := dk_16 56 (dk_at dksX6_excuses_0 12 rfl rfl)
theorem dX6_excuses_14 : decode cX6_excuses 14 = .ok (.aload_n 0, 1) := dk_42 (dk_at dksX6_excuses_0 14 rfl rfl)
theorem dX6_excuses_15 : decode cX6_excuses 15 = .ok (.getfield 7, 3) := dk_180 0 7 (dk_at dksX6_excuses_0 15 rfl rfl)
theorem dX6_excuses_18 : decode cX6_excuses 18 = .ok (.sipush 1664, 3) := dk_17 6 128 (dk_at dksX6_excuses_0 18 rfl rfl)
theorem dX6_excuses_21 : decode cX6_excuses 21 = .ok (.iaload, 1) := dk_46 (dk_at dksX6_excuses_0 21 rfl rfl)
theorem dX6_excuses_22 : decode cX6_excuses 22 = .ok (.invokevirtual 177, 3) := dk_182 0 177 (dk_at dksX6_excuses_1 0 rfl rfl)
theorem dX6_excuses_25 : decode cX6_excuses 25 = .ok (.istore_n 3, 1) := dk_62 (dk_at dksX6_excuses_1 3 rfl rfl)
theorem dX6_excuses_26 : decode cX6_excuses 26 = .ok (.iload_n 3, 1) := dk_29 (dk_at dksX6_excuses_1 4 rfl rfl)
theorem dX6_excuses_27 : decode cX6_excuses 27 = .ok (.iconst (-1), 1) := dk_2 (dk_at dksX6_excuses_1 5 rfl rfl)
theorem dX6_excuses_28 : decode cX6_excuses 28 = .ok (.if_icmp .ne 9, 3) := dk_160 0 9 (dk_at dksX6_excuses_1 6 rfl rfl)
theorem dX6_excuses_31 : decode cX6_excuses 31 = .ok (.aload_n 0, 1) := dk_42 (dk_at dksX6_excuses_1 9 rfl rfl)
theorem dX6_excuses_32 : decode cX6_excuses 32 = .ok (.iconst 3, 1) := dk_6 (dk_at dksX6_excuses_1 10 rfl rfl)
theorem dX6_excuses_33 : decode cX6_excuses 33 = .ok (.invokevirtual 160, 3) := dk_182 0 160 (dk_at dksX6_excuses_1 11 rfl rfl)
theorem dX6_excuses_36 : decode cX6_excuses 36 = .ok (.ireturn, 1) := dk_172 (dk_at dksX6_excuses_1 14 rfl rfl)
theorem dX6_excuses_37 : decode cX6_excuses 37 = .ok (.iload_n 2, 1) := dk_28 (dk_at dksX6_excuses_1 15 rfl rfl)
theorem dX6_excuses_38 : decode cX6_excuses 38 = .ok (.iload_n 3, 1) := dk_29 (dk_at dksX6_excuses_1 16 rfl rfl)
theorem dX6_excuses_39 : decode cX6_excuses 39 = .ok (.ishr, 1) := dk_122 (dk_at dksX6_excuses_1 17 rfl rfl)
theorem dX6_excuses_40 : decode cX6_excuses 40 = .ok (.iconst 1, 1) := dk_4 (dk_at dksX6_excuses_1 18 rfl rfl)
theorem dX6_excuses_41 : decode cX6_excuses 41 = .ok (.iand, 1) := dk_126 (dk_at dksX6_excuses_1 19 rfl rfl)
theorem dX6_excuses_42 : decode cX6_excuses 42 = .ok (.iconst 1, 1) := dk_4 (dk_at dksX6_excuses_1 20 rfl rfl)
theorem dX6_excuses_43 : decode cX6_excuses 43 = .ok (.if_icmp .ne 9, 3) := dk_160 0 9 (dk_at dksX6_excuses_1 21 rfl rfl)
theorem dX6_excuses_46 : decode cX6_excuses 46 = .ok (.aload_n 0, 1) := dk_42 (dk_at dksX6_excuses_2 0 rfl rfl)
theorem dX6_excuses_47 : decode cX6_excuses 47 = .ok (.iconst 5, 1) := dk_8 (dk_at dksX6_excuses_2 1 rfl rfl)
theorem dX6_excuses_48 : decode cX6_excuses 48 = .ok (.invokevirtual 160, 3) := dk_182 0 160 (dk_at dksX6_excuses_2 2 rfl rfl)
theorem dX6_excuses_51 : decode cX6_excuses 51 = .ok (.ireturn, 1) := dk_172 (dk_at dksX6_excuses_2 5 rfl rfl)
theorem dX6_excuses_52 : decode cX6_excuses 52 = .ok (.iload_n 2, 1) := dk_28 (dk_at dksX6_excuses_2 6 rfl rfl)
theorem dX6_excuses_53 : decode cX6_excuses 53 = .ok (.iconst 1, 1) := dk_4 (dk_at dksX6_excuses_2 7 rfl rfl)
theorem dX6_excuses_54 : decode cX6_excuses 54 = .ok (.iload_n 3, 1) := dk_29 (dk_at dksX6_excuses_2 8 rfl rfl)
theorem dX6_excuses_55 : decode cX6_excuses 55 = .ok (.ishl, 1) := dk_120 (dk_at dksX6_excuses_2 9 rfl rfl)
theorem dX6_excuses_56 : decode cX6_excuses 56 = .ok (.ior, 1) := dk_128 (dk_at dksX6_excuses_2 10 rfl rfl)
theorem dX6_excuses_57 : decode cX6_excuses 57 = .ok (.istore_n 2, 1) := dk_61 (dk_at dksX6_excuses_2 11 rfl rfl)
theorem dX6_excuses_58 : decode cX6_excuses 58 = .ok (.aload_n 0, 1) := dk_42 (dk_at dksX6_excuses_2 12 rfl rfl)
theorem dX6_excuses_59 : decode cX6_excuses 59 = .ok (.invokevirtual 154, 3) := dk_182 0 154 (dk_at dksX6_excuses_2 13 rfl rfl)
theorem dX6_excuses_62 : decode cX6_excuses 62 = .ok (.goto (-60), 3) := dk_167 255 196 (dk_at dksX6_excuses_2 16 rfl rfl)
theorem dX6_excuses_65 : decode cX6_excuses 65 = .ok (.aload_n 0, 1) := dk_42 (dk_at dksX6_excuses_2 19 rfl rfl)
theorem dX6_excuses_66 : decode cX6_excuses 66 = .ok (.getfield 7, 3) := dk_180 0 7 (dk_at dksX6_excuses_2 20 rfl rfl)
theorem dX6_excuses_69 : decode cX6_excuses 69 = .ok (.iload_n 1, 1) := dk_27 (dk_at dksX6_excuses_2 23 rfl rfl)
theorem dX6_excuses_70 : decode cX6_excuses 70 = .ok (.iload_n 2, 1) := dk_28 (dk_at dksX6_excuses_3 0 rfl rfl)
theorem dX6_excuses_71 : decode cX6_excuses 71 = .ok (.iastore, 1) := dk_79 (dk_at dksX6_excuses_3 1 rfl rfl)
theorem dX6_excuses_72 : decode cX6_excuses 72 = .ok (.iconst 1, 1) := dk_4 (dk_at dksX6_excuses_3 2 rfl rfl)
theorem dX6_excuses_73 : decode cX6_excuses 73 = .ok (.ireturn, 1) := dk_172 (dk_at dksX6_excuses_3 3 rfl rfl)
abbrev cX6_aBlindness : ByteArray := prog_15_method_45_code
def yX6_aBlindness : MethodName := ⟨RX6, "aBlindness", "()Z"⟩
def dkwX6_aBlindness_4 : List UInt8 := [180, 0, 7, 27, 4, 96, 46, 120, 128, 79, 4, 172]
abbrev dktX6_aBlindness_4 : List UInt8 := dkwX6_aBlindness_4 ++ []
def dkwX6_aBlindness_3 : List UInt8 := [180, 0, 7, 17, 6, 128, 42, 180, 0, 7, 27, 46, 184, 0, 194, 96, 6, 96, 92, 46, 4, 42]
abbrev dktX6_aBlindness_3 : List UInt8 := dkwX6_aBlindness_3 ++ dktX6_aBlindness_4
def dkwX6_aBlindness_2 : List UInt8 := [160, 0, 9, 42, 8, 182, 0, 160, 172, 42, 27, 4, 96, 182, 0, 203, 154, 0, 5, 3, 172, 42]
abbrev dktX6_aBlindness_2 : List UInt8 := dkwX6_aBlindness_2 ++ dktX6_aBlindness_3
def dkwX6_aBlindness_1 : List UInt8 := [153, 0, 32, 42, 16, 62, 42, 180, 0, 7, 17, 6, 129, 46, 182, 0, 177, 42, 180, 0, 7, 27, 46]
abbrev dktX6_aBlindness_1 : List UInt8 := dkwX6_aBlindness_1 ++ dktX6_aBlindness_2
def dkwX6_aBlindness_0 : List UInt8 := [17, 8, 24, 60, 42, 182, 0, 154, 42, 27, 182, 0, 203, 154, 0, 5, 3, 172, 42, 18, 171, 182, 0, 173]
abbrev dktX6_aBlindness_0 : List UInt8 := dkwX6_aBlindness_0 ++ dktX6_aBlindness_1
theorem dksX6_aBlindness_0 : cX6_aBlindness.data.toList.drop 0 = dktX6_aBlindness_0 := by decide +kernel
theorem dksX6_aBlindness_1 : cX6_aBlindness.data.toList.drop 24 = dktX6_aBlindness_1 := dk_seg dksX6_aBlindness_0 24 rfl rfl
theorem dksX6_aBlindness_2 : cX6_aBlindness.data.toList.drop 47 = dktX6_aBlindness_2 := dk_seg dksX6_aBlindness_1 23 rfl rfl
theorem dksX6_aBlindness_3 : cX6_aBlindness.data.toList.drop 69 = dktX6_aBlindness_3 := dk_seg dksX6_aBlindness_2 22 rfl rfl
theorem dksX6_aBlindness_4 : cX6_aBlindness.data.toList.drop 91 = dktX6_aBlindness_4 := dk_seg dksX6_aBlindness_3 22 rfl rfl
theorem dX6_aBlindness_0 : decode cX6_aBlindness 0 = .ok (.sipush 2072, 3) := dk_17 8 24 (dk_at dksX6_aBlindness_0 0 rfl rfl)
theorem dX6_aBlindness_3 : decode cX6_aBlindness 3 = .ok (.istore_n 1, 1) := dk_60 (dk_at dksX6_aBlindness_0 3 rfl rfl)
theorem dX6_aBlindness_4 : decode cX6_aBlindness 4 = .ok (.aload_n 0, 1) := dk_42 (dk_at dksX6_aBlindness_0 4 rfl rfl)
theorem dX6_aBlindness_5 : decode cX6_aBlindness 5 = .ok (.invokevirtual 154, 3) := dk_182 0 154 (dk_at dksX6_aBlindness_0 5 rfl rfl)
theorem dX6_aBlindness_8 : decode cX6_aBlindness 8 = .ok (.aload_n 0, 1) := dk_42 (dk_at dksX6_aBlindness_0 8 rfl rfl)
theorem dX6_aBlindness_9 : decode cX6_aBlindness 9 = .ok (.iload_n 1, 1) := dk_27 (dk_at dksX6_aBlindness_0 9 rfl rfl)
theorem dX6_aBlindness_10 : decode cX6_aBlindness 10 = .ok (.invokevirtual 203, 3) := dk_182 0 203 (dk_at dksX6_aBlindness_0 10 rfl rfl)
theorem dX6_aBlindness_13 : decode cX6_aBlindness 13 = .ok (.ifCond .ne 5, 3) := dk_154 0 5 (dk_at dksX6_aBlindness_0 13 rfl rfl)
theorem dX6_aBlindness_16 : decode cX6_aBlindness 16 = .ok (.iconst 0, 1) := dk_3 (dk_at dksX6_aBlindness_0 16 rfl rfl)
theorem dX6_aBlindness_17 : decode cX6_aBlindness 17 = .ok (.ireturn, 1) := dk_172 (dk_at dksX6_aBlindness_0 17 rfl rfl)
theorem dX6_aBlindness_18 : decode cX6_aBlindness 18 = .ok (.aload_n 0, 1) := dk_42 (dk_at dksX6_aBlindness_0 18 rfl rfl)
theorem dX6_aBlindness_19 : decode cX6_aBlindness 19 = .ok (.ldc 171, 2) := dk_18 171 (dk_at dksX6_aBlindness_0 19 rfl rfl)
theorem dX6_aBlindness_21 : decode cX6_aBlindness 21 = .ok (.invokevirtual 173, 3) := dk_182 0 173 (dk_at dksX6_aBlindness_0 21 rfl rfl)
theorem dX6_aBlindness_24 : decode cX6_aBlindness 24 = .ok (.ifCond .eq 32, 3) := dk_153 0 32 (dk_at dksX6_aBlindness_1 0 rfl rfl)
theorem dX6_aBlindness_27 : decode cX6_aBlindness 27 = .ok (.aload_n 0, 1) := dk_42 (dk_at dksX6_aBlindness_1 3 rfl rfl)
theorem dX6_aBlindness_28 : decode cX6_aBlindness 28 = .ok (.bipush 62, 2) := dk_16 62 (dk_at dksX6_aBlindness_1 4 rfl rfl)
theorem dX6_aBlindness_30 : decode cX6_aBlindness 30 = .ok (.aload_n 0, 1) := dk_42 (dk_at dksX6_aBlindness_1 6 rfl rfl)
theorem dX6_aBlindness_31 : decode cX6_aBlindness 31 = .ok (.getfield 7, 3) := dk_180 0 7 (dk_at dksX6_aBlindness_1 7 rfl rfl)
theorem dX6_aBlindness_34 : decode cX6_aBlindness 34 = .ok (.sipush 1665, 3) := dk_17 6 129 (dk_at dksX6_aBlindness_1 10 rfl rfl)
theorem dX6_aBlindness_37 : decode cX6_aBlindness 37 = .ok (.iaload, 1) := dk_46 (dk_at dksX6_aBlindness_1 13 rfl rfl)
theorem dX6_aBlindness_38 : decode cX6_aBlindness 38 = .ok (.invokevirtual 177, 3) := dk_182 0 177 (dk_at dksX6_aBlindness_1 14 rfl rfl)
theorem dX6_aBlindness_41 : decode cX6_aBlindness 41 = .ok (.aload_n 0, 1) := dk_42 (dk_at dksX6_aBlindness_1 17 rfl rfl)
theorem dX6_aBlindness_42 : decode cX6_aBlindness 42 = .ok (.getfield 7, 3) := dk_180 0 7 (dk_at dksX6_aBlindness_1 18 rfl rfl)
theorem dX6_aBlindness_45 : decode cX6_aBlindness 45 = .ok (.iload_n 1, 1) := dk_27 (dk_at dksX6_aBlindness_1 21 rfl rfl)
theorem dX6_aBlindness_46 : decode cX6_aBlindness 46 = .ok (.iaload, 1) := dk_46 (dk_at dksX6_aBlindness_1 22 rfl rfl)
theorem dX6_aBlindness_47 : decode cX6_aBlindness 47 = .ok (.if_icmp .ne 9, 3) := dk_160 0 9 (dk_at dksX6_aBlindness_2 0 rfl rfl)
theorem dX6_aBlindness_50 : decode cX6_aBlindness 50 = .ok (.aload_n 0, 1) := dk_42 (dk_at dksX6_aBlindness_2 3 rfl rfl)
theorem dX6_aBlindness_51 : decode cX6_aBlindness 51 = .ok (.iconst 5, 1) := dk_8 (dk_at dksX6_aBlindness_2 4 rfl rfl)
theorem dX6_aBlindness_52 : decode cX6_aBlindness 52 = .ok (.invokevirtual 160, 3) := dk_182 0 160 (dk_at dksX6_aBlindness_2 5 rfl rfl)
theorem dX6_aBlindness_55 : decode cX6_aBlindness 55 = .ok (.ireturn, 1) := dk_172 (dk_at dksX6_aBlindness_2 8 rfl rfl)
theorem dX6_aBlindness_56 : decode cX6_aBlindness 56 = .ok (.aload_n 0, 1) := dk_42 (dk_at dksX6_aBlindness_2 9 rfl rfl)
theorem dX6_aBlindness_57 : decode cX6_aBlindness 57 = .ok (.iload_n 1, 1) := dk_27 (dk_at dksX6_aBlindness_2 10 rfl rfl)
theorem dX6_aBlindness_58 : decode cX6_aBlindness 58 = .ok (.iconst 1, 1) := dk_4 (dk_at dksX6_aBlindness_2 11 rfl rfl)
theorem dX6_aBlindness_59 : decode cX6_aBlindness 59 = .ok (.iadd, 1) := dk_96 (dk_at dksX6_aBlindness_2 12 rfl rfl)
theorem dX6_aBlindness_60 : decode cX6_aBlindness 60 = .ok (.invokevirtual 203, 3) := dk_182 0 203 (dk_at dksX6_aBlindness_2 13 rfl rfl)
theorem dX6_aBlindness_63 : decode cX6_aBlindness 63 = .ok (.ifCond .ne 5, 3) := dk_154 0 5 (dk_at dksX6_aBlindness_2 16 rfl rfl)
theorem dX6_aBlindness_66 : decode cX6_aBlindness 66 = .ok (.iconst 0, 1) := dk_3 (dk_at dksX6_aBlindness_2 19 rfl rfl)
theorem dX6_aBlindness_67 : decode cX6_aBlindness 67 = .ok (.ireturn, 1) := dk_172 (dk_at dksX6_aBlindness_2 20 rfl rfl)
theorem dX6_aBlindness_68 : decode cX6_aBlindness 68 = .ok (.aload_n 0, 1) := dk_42 (dk_at dksX6_aBlindness_2 21 rfl rfl)
theorem dX6_aBlindness_69 : decode cX6_aBlindness 69 = .ok (.getfield 7, 3) := dk_180 0 7 (dk_at dksX6_aBlindness_3 0 rfl rfl)
theorem dX6_aBlindness_72 : decode cX6_aBlindness 72 = .ok (.sipush 1664, 3) := dk_17 6 128 (dk_at dksX6_aBlindness_3 3 rfl rfl)
theorem dX6_aBlindness_75 : decode cX6_aBlindness 75 = .ok (.aload_n 0, 1) := dk_42 (dk_at dksX6_aBlindness_3 6 rfl rfl)
theorem dX6_aBlindness_76 : decode cX6_aBlindness 76 = .ok (.getfield 7, 3) := dk_180 0 7 (dk_at dksX6_aBlindness_3 7 rfl rfl)
theorem dX6_aBlindness_79 : decode cX6_aBlindness 79 = .ok (.iload_n 1, 1) := dk_27 (dk_at dksX6_aBlindness_3 10 rfl rfl)
theorem dX6_aBlindness_80 : decode cX6_aBlindness 80 = .ok (.iaload, 1) := dk_46 (dk_at dksX6_aBlindness_3 11 rfl rfl)
theorem dX6_aBlindness_81 : decode cX6_aBlindness 81 = .ok (.invokestatic 194, 3) := dk_184 0 194 (dk_at dksX6_aBlindness_3 12 rfl rfl)
theorem dX6_aBlindness_84 : decode cX6_aBlindness 84 = .ok (.iadd, 1) := dk_96 (dk_at dksX6_aBlindness_3 15 rfl rfl)
theorem dX6_aBlindness_85 : decode cX6_aBlindness 85 = .ok (.iconst 3, 1) := dk_6 (dk_at dksX6_aBlindness_3 16 rfl rfl)
theorem dX6_aBlindness_86 : decode cX6_aBlindness 86 = .ok (.iadd, 1) := dk_96 (dk_at dksX6_aBlindness_3 17 rfl rfl)
theorem dX6_aBlindness_87 : decode cX6_aBlindness 87 = .ok (.dup2, 1) := dk_92 (dk_at dksX6_aBlindness_3 18 rfl rfl)
theorem dX6_aBlindness_88 : decode cX6_aBlindness 88 = .ok (.iaload, 1) := dk_46 (dk_at dksX6_aBlindness_3 19 rfl rfl)
theorem dX6_aBlindness_89 : decode cX6_aBlindness 89 = .ok (.iconst 1, 1) := dk_4 (dk_at dksX6_aBlindness_3 20 rfl rfl)
theorem dX6_aBlindness_90 : decode cX6_aBlindness 90 = .ok (.aload_n 0, 1) := dk_42 (dk_at dksX6_aBlindness_3 21 rfl rfl)
theorem dX6_aBlindness_91 : decode cX6_aBlindness 91 = .ok (.getfield 7, 3) := dk_180 0 7 (dk_at dksX6_aBlindness_4 0 rfl rfl)
theorem dX6_aBlindness_94 : decode cX6_aBlindness 94 = .ok (.iload_n 1, 1) := dk_27 (dk_at dksX6_aBlindness_4 3 rfl rfl)
theorem dX6_aBlindness_95 : decode cX6_aBlindness 95 = .ok (.iconst 1, 1) := dk_4 (dk_at dksX6_aBlindness_4 4 rfl rfl)
theorem dX6_aBlindness_96 : decode cX6_aBlindness 96 = .ok (.iadd, 1) := dk_96 (dk_at dksX6_aBlindness_4 5 rfl rfl)
theorem dX6_aBlindness_97 : decode cX6_aBlindness 97 = .ok (.iaload, 1) := dk_46 (dk_at dksX6_aBlindness_4 6 rfl rfl)
theorem dX6_aBlindness_98 : decode cX6_aBlindness 98 = .ok (.ishl, 1) := dk_120 (dk_at dksX6_aBlindness_4 7 rfl rfl)
theorem dX6_aBlindness_99 : decode cX6_aBlindness 99 = .ok (.ior, 1) := dk_128 (dk_at dksX6_aBlindness_4 8 rfl rfl)
theorem dX6_aBlindness_100 : decode cX6_aBlindness 100 = .ok (.iastore, 1) := dk_79 (dk_at dksX6_aBlindness_4 9 rfl rfl)
theorem dX6_aBlindness_101 : decode cX6_aBlindness 101 = .ok (.iconst 1, 1) := dk_4 (dk_at dksX6_aBlindness_4 10 rfl rfl)
theorem dX6_aBlindness_102 : decode cX6_aBlindness 102 = .ok (.ireturn, 1) := dk_172 (dk_at dksX6_aBlindness_4 11 rfl rfl)
abbrev cX6_newPersonTo : ByteArray := prog_15_method_44_code
def yX6_newPersonTo : MethodName := ⟨RX6, "newPersonTo", "(I)Z"⟩
def dkwX6_newPersonTo_0 : List UInt8 := [42, 16, 62, 42, 180, 0, 7, 17, 6, 129, 46, 27, 182, 0, 200, 172]
abbrev dktX6_newPersonTo_0 : List UInt8 := dkwX6_newPersonTo_0 ++ []
theorem dksX6_newPersonTo_0 : cX6_newPersonTo.data.toList.drop 0 = dktX6_newPersonTo_0 := by decide +kernel
theorem dX6_newPersonTo_0 : decode cX6_newPersonTo 0 = .ok (.aload_n 0, 1) := dk_42 (dk_at dksX6_newPersonTo_0 0 rfl rfl)
theorem dX6_newPersonTo_1 : decode cX6_newPersonTo 1 = .ok (.bipush 62, 2) := dk_16 62 (dk_at dksX6_newPersonTo_0 1 rfl rfl)
theorem dX6_newPersonTo_3 : decode cX6_newPersonTo 3 = .ok (.aload_n 0, 1) := dk_42 (dk_at dksX6_newPersonTo_0 3 rfl rfl)
theorem dX6_newPersonTo_4 : decode cX6_newPersonTo 4 = .ok (.getfield 7, 3) := dk_180 0 7 (dk_at dksX6_newPersonTo_0 4 rfl rfl)
theorem dX6_newPersonTo_7 : decode cX6_newPersonTo 7 = .ok (.sipush 1665, 3) := dk_17 6 129 (dk_at dksX6_newPersonTo_0 7 rfl rfl)
theorem dX6_newPersonTo_10 : decode cX6_newPersonTo 10 = .ok (.iaload, 1) := dk_46 (dk_at dksX6_newPersonTo_0 10 rfl rfl)
theorem dX6_newPersonTo_11 : decode cX6_newPersonTo 11 = .ok (.iload_n 1, 1) := dk_27 (dk_at dksX6_newPersonTo_0 11 rfl rfl)
theorem dX6_newPersonTo_12 : decode cX6_newPersonTo 12 = .ok (.invokevirtual 200, 3) := dk_182 0 200 (dk_at dksX6_newPersonTo_0 12 rfl rfl)
theorem dX6_newPersonTo_15 : decode cX6_newPersonTo 15 = .ok (.ireturn, 1) := dk_172 (dk_at dksX6_newPersonTo_0 15 rfl rfl)
abbrev cX6_oldOne : ByteArray := prog_15_method_40_code
def yX6_oldOne : MethodName := ⟨RX6, "oldOne", "(III)Z"⟩
def dkwX6_oldOne_2 : List UInt8 := [4, 172]
abbrev dktX6_oldOne_2 : List UInt8 := dkwX6_oldOne_2 ++ []
def dkwX6_oldOne_1 : List UInt8 := [182, 0, 177, 79, 42, 180, 0, 7, 29, 46, 2, 160, 0, 9, 42, 6, 182, 0, 160, 172, 42, 182, 0, 154]
abbrev dktX6_oldOne_1 : List UInt8 := dkwX6_oldOne_1 ++ dktX6_oldOne_2
def dkwX6_oldOne_0 : List UInt8 := [42, 18, 171, 182, 0, 173, 154, 0, 9, 42, 5, 182, 0, 160, 172, 42, 180, 0, 7, 29, 42, 27, 28]
abbrev dktX6_oldOne_0 : List UInt8 := dkwX6_oldOne_0 ++ dktX6_oldOne_1
theorem dksX6_oldOne_0 : cX6_oldOne.data.toList.drop 0 = dktX6_oldOne_0 := by decide +kernel
theorem dksX6_oldOne_1 : cX6_oldOne.data.toList.drop 23 = dktX6_oldOne_1 := dk_seg dksX6_oldOne_0 23 rfl rfl
theorem dksX6_oldOne_2 : cX6_oldOne.data.toList.drop 47 = dktX6_oldOne_2 := dk_seg dksX6_oldOne_1 24 rfl rfl
theorem dX6_oldOne_0 : decode cX6_oldOne 0 = .ok (.aload_n 0, 1) := dk_42 (dk_at dksX6_oldOne_0 0 rfl rfl)
theorem dX6_oldOne_1 : decode cX6_oldOne 1 = .ok (.ldc 171, 2) := dk_18 171 (dk_at dksX6_oldOne_0 1 rfl rfl)
theorem dX6_oldOne_3 : decode cX6_oldOne 3 = .ok (.invokevirtual 173, 3) := dk_182 0 173 (dk_at dksX6_oldOne_0 3 rfl rfl)
theorem dX6_oldOne_6 : decode cX6_oldOne 6 = .ok (.ifCond .ne 9, 3) := dk_154 0 9 (dk_at dksX6_oldOne_0 6 rfl rfl)
theorem dX6_oldOne_9 : decode cX6_oldOne 9 = .ok (.aload_n 0, 1) := dk_42 (dk_at dksX6_oldOne_0 9 rfl rfl)
theorem dX6_oldOne_10 : decode cX6_oldOne 10 = .ok (.iconst 2, 1) := dk_5 (dk_at dksX6_oldOne_0 10 rfl rfl)
theorem dX6_oldOne_11 : decode cX6_oldOne 11 = .ok (.invokevirtual 160, 3) := dk_182 0 160 (dk_at dksX6_oldOne_0 11 rfl rfl)
theorem dX6_oldOne_14 : decode cX6_oldOne 14 = .ok (.ireturn, 1) := dk_172 (dk_at dksX6_oldOne_0 14 rfl rfl)
theorem dX6_oldOne_15 : decode cX6_oldOne 15 = .ok (.aload_n 0, 1) := dk_42 (dk_at dksX6_oldOne_0 15 rfl rfl)
theorem dX6_oldOne_16 : decode cX6_oldOne 16 = .ok (.getfield 7, 3) := dk_180 0 7 (dk_at dksX6_oldOne_0 16 rfl rfl)
theorem dX6_oldOne_19 : decode cX6_oldOne 19 = .ok (.iload_n 3, 1) := dk_29 (dk_at dksX6_oldOne_0 19 rfl rfl)
theorem dX6_oldOne_20 : decode cX6_oldOne 20 = .ok (.aload_n 0, 1) := dk_42 (dk_at dksX6_oldOne_0 20 rfl rfl)
theorem dX6_oldOne_21 : decode cX6_oldOne 21 = .ok (.iload_n 1, 1) := dk_27 (dk_at dksX6_oldOne_0 21 rfl rfl)
theorem dX6_oldOne_22 : decode cX6_oldOne 22 = .ok (.iload_n 2, 1) := dk_28 (dk_at dksX6_oldOne_0 22 rfl rfl)
theorem dX6_oldOne_23 : decode cX6_oldOne 23 = .ok (.invokevirtual 177, 3) := dk_182 0 177 (dk_at dksX6_oldOne_1 0 rfl rfl)
theorem dX6_oldOne_26 : decode cX6_oldOne 26 = .ok (.iastore, 1) := dk_79 (dk_at dksX6_oldOne_1 3 rfl rfl)
theorem dX6_oldOne_27 : decode cX6_oldOne 27 = .ok (.aload_n 0, 1) := dk_42 (dk_at dksX6_oldOne_1 4 rfl rfl)
theorem dX6_oldOne_28 : decode cX6_oldOne 28 = .ok (.getfield 7, 3) := dk_180 0 7 (dk_at dksX6_oldOne_1 5 rfl rfl)
theorem dX6_oldOne_31 : decode cX6_oldOne 31 = .ok (.iload_n 3, 1) := dk_29 (dk_at dksX6_oldOne_1 8 rfl rfl)
theorem dX6_oldOne_32 : decode cX6_oldOne 32 = .ok (.iaload, 1) := dk_46 (dk_at dksX6_oldOne_1 9 rfl rfl)
theorem dX6_oldOne_33 : decode cX6_oldOne 33 = .ok (.iconst (-1), 1) := dk_2 (dk_at dksX6_oldOne_1 10 rfl rfl)
theorem dX6_oldOne_34 : decode cX6_oldOne 34 = .ok (.if_icmp .ne 9, 3) := dk_160 0 9 (dk_at dksX6_oldOne_1 11 rfl rfl)
theorem dX6_oldOne_37 : decode cX6_oldOne 37 = .ok (.aload_n 0, 1) := dk_42 (dk_at dksX6_oldOne_1 14 rfl rfl)
theorem dX6_oldOne_38 : decode cX6_oldOne 38 = .ok (.iconst 3, 1) := dk_6 (dk_at dksX6_oldOne_1 15 rfl rfl)
theorem dX6_oldOne_39 : decode cX6_oldOne 39 = .ok (.invokevirtual 160, 3) := dk_182 0 160 (dk_at dksX6_oldOne_1 16 rfl rfl)
theorem dX6_oldOne_42 : decode cX6_oldOne 42 = .ok (.ireturn, 1) := dk_172 (dk_at dksX6_oldOne_1 19 rfl rfl)
theorem dX6_oldOne_43 : decode cX6_oldOne 43 = .ok (.aload_n 0, 1) := dk_42 (dk_at dksX6_oldOne_1 20 rfl rfl)
theorem dX6_oldOne_44 : decode cX6_oldOne 44 = .ok (.invokevirtual 154, 3) := dk_182 0 154 (dk_at dksX6_oldOne_1 21 rfl rfl)
theorem dX6_oldOne_47 : decode cX6_oldOne 47 = .ok (.iconst 1, 1) := dk_4 (dk_at dksX6_oldOne_2 0 rfl rfl)
theorem dX6_oldOne_48 : decode cX6_oldOne 48 = .ok (.ireturn, 1) := dk_172 (dk_at dksX6_oldOne_2 1 rfl rfl)
abbrev cX6_wantSign : ByteArray := prog_15_method_29_code
def yX6_wantSign : MethodName := ⟨RX6, "wantSign", "(I)Z"⟩
def dkwX6_wantSign_0 : List UInt8 := [42, 27, 182, 0, 157, 154, 0, 9, 42, 5, 182, 0, 160, 172, 42, 182, 0, 154, 4, 172]
abbrev dktX6_wantSign_0 : List UInt8 := dkwX6_wantSign_0 ++ []
theorem dksX6_wantSign_0 : cX6_wantSign.data.toList.drop 0 = dktX6_wantSign_0 := by decide +kernel
theorem dX6_wantSign_0 : decode cX6_wantSign 0 = .ok (.aload_n 0, 1) := dk_42 (dk_at dksX6_wantSign_0 0 rfl rfl)
theorem dX6_wantSign_1 : decode cX6_wantSign 1 = .ok (.iload_n 1, 1) := dk_27 (dk_at dksX6_wantSign_0 1 rfl rfl)
theorem dX6_wantSign_2 : decode cX6_wantSign 2 = .ok (.invokevirtual 157, 3) := dk_182 0 157 (dk_at dksX6_wantSign_0 2 rfl rfl)
theorem dX6_wantSign_5 : decode cX6_wantSign 5 = .ok (.ifCond .ne 9, 3) := dk_154 0 9 (dk_at dksX6_wantSign_0 5 rfl rfl)
theorem dX6_wantSign_8 : decode cX6_wantSign 8 = .ok (.aload_n 0, 1) := dk_42 (dk_at dksX6_wantSign_0 8 rfl rfl)
theorem dX6_wantSign_9 : decode cX6_wantSign 9 = .ok (.iconst 2, 1) := dk_5 (dk_at dksX6_wantSign_0 9 rfl rfl)
theorem dX6_wantSign_10 : decode cX6_wantSign 10 = .ok (.invokevirtual 160, 3) := dk_182 0 160 (dk_at dksX6_wantSign_0 10 rfl rfl)
theorem dX6_wantSign_13 : decode cX6_wantSign 13 = .ok (.ireturn, 1) := dk_172 (dk_at dksX6_wantSign_0 13 rfl rfl)
theorem dX6_wantSign_14 : decode cX6_wantSign 14 = .ok (.aload_n 0, 1) := dk_42 (dk_at dksX6_wantSign_0 14 rfl rfl)
theorem dX6_wantSign_15 : decode cX6_wantSign 15 = .ok (.invokevirtual 154, 3) := dk_182 0 154 (dk_at dksX6_wantSign_0 15 rfl rfl)
theorem dX6_wantSign_18 : decode cX6_wantSign 18 = .ok (.iconst 1, 1) := dk_4 (dk_at dksX6_wantSign_0 18 rfl rfl)
theorem dX6_wantSign_19 : decode cX6_wantSign 19 = .ok (.ireturn, 1) := dk_172 (dk_at dksX6_wantSign_0 19 rfl rfl)
abbrev cX6_isSign : ByteArray := prog_15_method_25_code
def yX6_isSign : MethodName := ⟨RX6, "isSign", "(I)Z"⟩
def dkwX6_isSign_0 : List UInt8 := [42, 180, 0, 123, 7, 160, 0, 15, 42, 180, 0, 120, 27, 160, 0, 7, 4, 167, 0, 4, 3, 172]
abbrev dktX6_isSign_0 : List UInt8 := dkwX6_isSign_0 ++ []
theorem dksX6_isSign_0 : cX6_isSign.data.toList.drop 0 = dktX6_isSign_0 := by decide +kernel
theorem dX6_isSign_0 : decode cX6_isSign 0 = .ok (.aload_n 0, 1) := dk_42 (dk_at dksX6_isSign_0 0 rfl rfl)
theorem dX6_isSign_1 : decode cX6_isSign 1 = .ok (.getfield 123, 3) := dk_180 0 123 (dk_at dksX6_isSign_0 1 rfl rfl)
theorem dX6_isSign_4 : decode cX6_isSign 4 = .ok (.iconst 4, 1) := dk_7 (dk_at dksX6_isSign_0 4 rfl rfl)
theorem dX6_isSign_5 : decode cX6_isSign 5 = .ok (.if_icmp .ne 15, 3) := dk_160 0 15 (dk_at dksX6_isSign_0 5 rfl rfl)
theorem dX6_isSign_8 : decode cX6_isSign 8 = .ok (.aload_n 0, 1) := dk_42 (dk_at dksX6_isSign_0 8 rfl rfl)
theorem dX6_isSign_9 : decode cX6_isSign 9 = .ok (.getfield 120, 3) := dk_180 0 120 (dk_at dksX6_isSign_0 9 rfl rfl)
theorem dX6_isSign_12 : decode cX6_isSign 12 = .ok (.iload_n 1, 1) := dk_27 (dk_at dksX6_isSign_0 12 rfl rfl)
theorem dX6_isSign_13 : decode cX6_isSign 13 = .ok (.if_icmp .ne 7, 3) := dk_160 0 7 (dk_at dksX6_isSign_0 13 rfl rfl)
theorem dX6_isSign_16 : decode cX6_isSign 16 = .ok (.iconst 1, 1) := dk_4 (dk_at dksX6_isSign_0 16 rfl rfl)
theorem dX6_isSign_17 : decode cX6_isSign 17 = .ok (.goto 4, 3) := dk_167 0 4 (dk_at dksX6_isSign_0 17 rfl rfl)
theorem dX6_isSign_20 : decode cX6_isSign 20 = .ok (.iconst 0, 1) := dk_3 (dk_at dksX6_isSign_0 20 rfl rfl)
theorem dX6_isSign_21 : decode cX6_isSign 21 = .ok (.ireturn, 1) := dk_172 (dk_at dksX6_isSign_0 21 rfl rfl)
abbrev cX6_taken : ByteArray := prog_15_method_36_code
def yX6_taken : MethodName := ⟨RX6, "taken", "(I)I"⟩
def dkwX6_taken_1 : List UInt8 := [42, 27, 182, 0, 82, 172]
abbrev dktX6_taken_1 : List UInt8 := dkwX6_taken_1 ++ []
def dkwX6_taken_0 : List UInt8 := [42, 42, 180, 0, 148, 181, 0, 37, 42, 180, 0, 148, 158, 0, 12, 42, 16, 9, 182, 0, 78, 167, 0, 8]
abbrev dktX6_taken_0 : List UInt8 := dkwX6_taken_0 ++ dktX6_taken_1
theorem dksX6_taken_0 : cX6_taken.data.toList.drop 0 = dktX6_taken_0 := by decide +kernel
theorem dksX6_taken_1 : cX6_taken.data.toList.drop 24 = dktX6_taken_1 := dk_seg dksX6_taken_0 24 rfl rfl
theorem dX6_taken_0 : decode cX6_taken 0 = .ok (.aload_n 0, 1) := dk_42 (dk_at dksX6_taken_0 0 rfl rfl)
theorem dX6_taken_1 : decode cX6_taken 1 = .ok (.aload_n 0, 1) := dk_42 (dk_at dksX6_taken_0 1 rfl rfl)
theorem dX6_taken_2 : decode cX6_taken 2 = .ok (.getfield 148, 3) := dk_180 0 148 (dk_at dksX6_taken_0 2 rfl rfl)
theorem dX6_taken_5 : decode cX6_taken 5 = .ok (.putfield 37, 3) := dk_181 0 37 (dk_at dksX6_taken_0 5 rfl rfl)
theorem dX6_taken_8 : decode cX6_taken 8 = .ok (.aload_n 0, 1) := dk_42 (dk_at dksX6_taken_0 8 rfl rfl)
theorem dX6_taken_9 : decode cX6_taken 9 = .ok (.getfield 148, 3) := dk_180 0 148 (dk_at dksX6_taken_0 9 rfl rfl)
theorem dX6_taken_12 : decode cX6_taken 12 = .ok (.ifCond .le 12, 3) := dk_158 0 12 (dk_at dksX6_taken_0 12 rfl rfl)
theorem dX6_taken_15 : decode cX6_taken 15 = .ok (.aload_n 0, 1) := dk_42 (dk_at dksX6_taken_0 15 rfl rfl)
theorem dX6_taken_16 : decode cX6_taken 16 = .ok (.bipush 9, 2) := dk_16 9 (dk_at dksX6_taken_0 16 rfl rfl)
theorem dX6_taken_18 : decode cX6_taken 18 = .ok (.invokevirtual 78, 3) := dk_182 0 78 (dk_at dksX6_taken_0 18 rfl rfl)
theorem dX6_taken_21 : decode cX6_taken 21 = .ok (.goto 8, 3) := dk_167 0 8 (dk_at dksX6_taken_0 21 rfl rfl)
theorem dX6_taken_24 : decode cX6_taken 24 = .ok (.aload_n 0, 1) := dk_42 (dk_at dksX6_taken_1 0 rfl rfl)
theorem dX6_taken_25 : decode cX6_taken 25 = .ok (.iload_n 1, 1) := dk_27 (dk_at dksX6_taken_1 1 rfl rfl)
theorem dX6_taken_26 : decode cX6_taken 26 = .ok (.invokevirtual 82, 3) := dk_182 0 82 (dk_at dksX6_taken_1 2 rfl rfl)
theorem dX6_taken_29 : decode cX6_taken 29 = .ok (.ireturn, 1) := dk_172 (dk_at dksX6_taken_1 5 rfl rfl)
abbrev cX6_gives : ByteArray := prog_15_method_8_code
def yX6_gives : MethodName := ⟨RX6, "gives", "(I)I"⟩
def dkwX6_gives_0 : List UInt8 := [42, 3, 181, 0, 72, 27, 172]
abbrev dktX6_gives_0 : List UInt8 := dkwX6_gives_0 ++ []
theorem dksX6_gives_0 : cX6_gives.data.toList.drop 0 = dktX6_gives_0 := by decide +kernel
theorem dX6_gives_0 : decode cX6_gives 0 = .ok (.aload_n 0, 1) := dk_42 (dk_at dksX6_gives_0 0 rfl rfl)
theorem dX6_gives_1 : decode cX6_gives 1 = .ok (.iconst 0, 1) := dk_3 (dk_at dksX6_gives_0 1 rfl rfl)
theorem dX6_gives_2 : decode cX6_gives 2 = .ok (.putfield 72, 3) := dk_181 0 72 (dk_at dksX6_gives_0 2 rfl rfl)
theorem dX6_gives_5 : decode cX6_gives 5 = .ok (.iload_n 1, 1) := dk_27 (dk_at dksX6_gives_0 5 rfl rfl)
theorem dX6_gives_6 : decode cX6_gives 6 = .ok (.ireturn, 1) := dk_172 (dk_at dksX6_gives_0 6 rfl rfl)
abbrev cX6_years : ByteArray := prog_15_method_53_code
def yX6_years : MethodName := ⟨RX6, "years", "(I)I"⟩
def dkwX6_years_6 : List UInt8 := [172]
abbrev dktX6_years_6 : List UInt8 := dkwX6_years_6 ++ []
def dkwX6_years_5 : List UInt8 := [180, 0, 7, 17, 6, 128, 29, 96, 46, 79, 132, 3, 1, 167, 255, 230, 42, 42, 180, 0, 244, 182, 0, 229]
abbrev dktX6_years_5 : List UInt8 := dkwX6_years_5 ++ dktX6_years_6
def dkwX6_years_4 : List UInt8 := [180, 0, 7, 17, 6, 136, 46, 79, 16, 48, 62, 29, 17, 1, 152, 162, 0, 25, 42, 180, 0, 7, 29, 42]
abbrev dktX6_years_4 : List UInt8 := dkwX6_years_4 ++ dktX6_years_5
def dkwX6_years_3 : List UInt8 := [158, 0, 9, 42, 5, 182, 0, 160, 87, 42, 180, 0, 148, 154, 0, 50, 42, 180, 0, 7, 16, 8, 42]
abbrev dktX6_years_3 : List UInt8 := dkwX6_years_3 ++ dktX6_years_4
def dkwX6_years_2 : List UInt8 := [153, 0, 11, 42, 182, 0, 250, 61, 167, 255, 240, 42, 180, 0, 148, 154, 0, 16, 42, 180, 0, 241]
abbrev dktX6_years_2 : List UInt8 := dkwX6_years_2 ++ dktX6_years_3
def dkwX6_years_1 : List UInt8 := [3, 79, 42, 3, 181, 0, 241, 42, 3, 181, 0, 244, 4, 61, 28, 153, 0, 18, 42, 180, 0, 123]
abbrev dktX6_years_1 : List UInt8 := dkwX6_years_1 ++ dktX6_years_2
def dkwX6_years_0 : List UInt8 := [42, 27, 17, 1, 44, 182, 0, 222, 154, 0, 9, 42, 4, 182, 0, 78, 172, 42, 180, 0, 7, 17, 6, 136]
abbrev dktX6_years_0 : List UInt8 := dkwX6_years_0 ++ dktX6_years_1
theorem dksX6_years_0 : cX6_years.data.toList.drop 0 = dktX6_years_0 := by decide +kernel
theorem dksX6_years_1 : cX6_years.data.toList.drop 24 = dktX6_years_1 := dk_seg dksX6_years_0 24 rfl rfl
theorem dksX6_years_2 : cX6_years.data.toList.drop 46 = dktX6_years_2 := dk_seg dksX6_years_1 22 rfl rfl
theorem dksX6_years_3 : cX6_years.data.toList.drop 68 = dktX6_years_3 := dk_seg dksX6_years_2 22 rfl rfl
theorem dksX6_years_4 : cX6_years.data.toList.drop 91 = dktX6_years_4 := dk_seg dksX6_years_3 23 rfl rfl
theorem dksX6_years_5 : cX6_years.data.toList.drop 115 = dktX6_years_5 := dk_seg dksX6_years_4 24 rfl rfl
theorem dksX6_years_6 : cX6_years.data.toList.drop 139 = dktX6_years_6 := dk_seg dksX6_years_5 24 rfl rfl
theorem dX6_years_0 : decode cX6_years 0 = .ok (.aload_n 0, 1) := dk_42 (dk_at dksX6_years_0 0 rfl rfl)
theorem dX6_years_1 : decode cX6_years 1 = .ok (.iload_n 1, 1) := dk_27 (dk_at dksX6_years_0 1 rfl rfl)
theorem dX6_years_2 : decode cX6_years 2 = .ok (.sipush 300, 3) := dk_17 1 44 (dk_at dksX6_years_0 2 rfl rfl)
theorem dX6_years_5 : decode cX6_years 5 = .ok (.invokevirtual 222, 3) := dk_182 0 222 (dk_at dksX6_years_0 5 rfl rfl)
theorem dX6_years_8 : decode cX6_years 8 = .ok (.ifCond .ne 9, 3) := dk_154 0 9 (dk_at dksX6_years_0 8 rfl rfl)
theorem dX6_years_11 : decode cX6_years 11 = .ok (.aload_n 0, 1) := dk_42 (dk_at dksX6_years_0 11 rfl rfl)
theorem dX6_years_12 : decode cX6_years 12 = .ok (.iconst 1, 1) := dk_4 (dk_at dksX6_years_0 12 rfl rfl)
theorem dX6_years_13 : decode cX6_years 13 = .ok (.invokevirtual 78, 3) := dk_182 0 78 (dk_at dksX6_years_0 13 rfl rfl)
theorem dX6_years_16 : decode cX6_years 16 = .ok (.ireturn, 1) := dk_172 (dk_at dksX6_years_0 16 rfl rfl)
theorem dX6_years_17 : decode cX6_years 17 = .ok (.aload_n 0, 1) := dk_42 (dk_at dksX6_years_0 17 rfl rfl)
theorem dX6_years_18 : decode cX6_years 18 = .ok (.getfield 7, 3) := dk_180 0 7 (dk_at dksX6_years_0 18 rfl rfl)
theorem dX6_years_21 : decode cX6_years 21 = .ok (.sipush 1672, 3) := dk_17 6 136 (dk_at dksX6_years_0 21 rfl rfl)
theorem dX6_years_24 : decode cX6_years 24 = .ok (.iconst 0, 1) := dk_3 (dk_at dksX6_years_1 0 rfl rfl)
theorem dX6_years_25 : decode cX6_years 25 = .ok (.iastore, 1) := dk_79 (dk_at dksX6_years_1 1 rfl rfl)
theorem dX6_years_26 : decode cX6_years 26 = .ok (.aload_n 0, 1) := dk_42 (dk_at dksX6_years_1 2 rfl rfl)
theorem dX6_years_27 : decode cX6_years 27 = .ok (.iconst 0, 1) := dk_3 (dk_at dksX6_years_1 3 rfl rfl)
theorem dX6_years_28 : decode cX6_years 28 = .ok (.putfield 241, 3) := dk_181 0 241 (dk_at dksX6_years_1 4 rfl rfl)
theorem dX6_years_31 : decode cX6_years 31 = .ok (.aload_n 0, 1) := dk_42 (dk_at dksX6_years_1 7 rfl rfl)
theorem dX6_years_32 : decode cX6_years 32 = .ok (.iconst 0, 1) := dk_3 (dk_at dksX6_years_1 8 rfl rfl)
theorem dX6_years_33 : decode cX6_years 33 = .ok (.putfield 244, 3) := dk_181 0 244 (dk_at dksX6_years_1 9 rfl rfl)
theorem dX6_years_36 : decode cX6_years 36 = .ok (.iconst 1, 1) := dk_4 (dk_at dksX6_years_1 12 rfl rfl)
theorem dX6_years_37 : decode cX6_years 37 = .ok (.istore_n 2, 1) := dk_61 (dk_at dksX6_years_1 13 rfl rfl)
theorem dX6_years_38 : decode cX6_years 38 = .ok (.iload_n 2, 1) := dk_28 (dk_at dksX6_years_1 14 rfl rfl)
theorem dX6_years_39 : decode cX6_years 39 = .ok (.ifCond .eq 18, 3) := dk_153 0 18 (dk_at dksX6_years_1 15 rfl rfl)
theorem dX6_years_42 : decode cX6_years 42 = .ok (.aload_n 0, 1) := dk_42 (dk_at dksX6_years_1 18 rfl rfl)
theorem dX6_years_43 : decode cX6_years 43 = .ok (.getfield 123, 3) := dk_180 0 123 (dk_at dksX6_years_1 19 rfl rfl)
theorem dX6_years_46 : decode cX6_years 46 = .ok (.ifCond .eq 11, 3) := dk_153 0 11 (dk_at dksX6_years_2 0 rfl rfl)
theorem dX6_years_49 : decode cX6_years 49 = .ok (.aload_n 0, 1) := dk_42 (dk_at dksX6_years_2 3 rfl rfl)
theorem dX6_years_50 : decode cX6_years 50 = .ok (.invokevirtual 250, 3) := dk_182 0 250 (dk_at dksX6_years_2 4 rfl rfl)
theorem dX6_years_53 : decode cX6_years 53 = .ok (.istore_n 2, 1) := dk_61 (dk_at dksX6_years_2 7 rfl rfl)
theorem dX6_years_54 : decode cX6_years 54 = .ok (.goto (-16), 3) := dk_167 255 240 (dk_at dksX6_years_2 8 rfl rfl)
theorem dX6_years_57 : decode cX6_years 57 = .ok (.aload_n 0, 1) := dk_42 (dk_at dksX6_years_2 11 rfl rfl)
theorem dX6_years_58 : decode cX6_years 58 = .ok (.getfield 148, 3) := dk_180 0 148 (dk_at dksX6_years_2 12 rfl rfl)
theorem dX6_years_61 : decode cX6_years 61 = .ok (.ifCond .ne 16, 3) := dk_154 0 16 (dk_at dksX6_years_2 15 rfl rfl)
theorem dX6_years_64 : decode cX6_years 64 = .ok (.aload_n 0, 1) := dk_42 (dk_at dksX6_years_2 18 rfl rfl)
theorem dX6_years_65 : decode cX6_years 65 = .ok (.getfield 241, 3) := dk_180 0 241 (dk_at dksX6_years_2 19 rfl rfl)
theorem dX6_years_68 : decode cX6_years 68 = .ok (.ifCond .le 9, 3) := dk_158 0 9 (dk_at dksX6_years_3 0 rfl rfl)
theorem dX6_years_71 : decode cX6_years 71 = .ok (.aload_n 0, 1) := dk_42 (dk_at dksX6_years_3 3 rfl rfl)
theorem dX6_years_72 : decode cX6_years 72 = .ok (.iconst 2, 1) := dk_5 (dk_at dksX6_years_3 4 rfl rfl)
theorem dX6_years_73 : decode cX6_years 73 = .ok (.invokevirtual 160, 3) := dk_182 0 160 (dk_at dksX6_years_3 5 rfl rfl)
theorem dX6_years_76 : decode cX6_years 76 = .ok (.pop, 1) := dk_87 (dk_at dksX6_years_3 8 rfl rfl)
theorem dX6_years_77 : decode cX6_years 77 = .ok (.aload_n 0, 1) := dk_42 (dk_at dksX6_years_3 9 rfl rfl)
theorem dX6_years_78 : decode cX6_years 78 = .ok (.getfield 148, 3) := dk_180 0 148 (dk_at dksX6_years_3 10 rfl rfl)
theorem dX6_years_81 : decode cX6_years 81 = .ok (.ifCond .ne 50, 3) := dk_154 0 50 (dk_at dksX6_years_3 13 rfl rfl)
theorem dX6_years_84 : decode cX6_years 84 = .ok (.aload_n 0, 1) := dk_42 (dk_at dksX6_years_3 16 rfl rfl)
theorem dX6_years_85 : decode cX6_years 85 = .ok (.getfield 7, 3) := dk_180 0 7 (dk_at dksX6_years_3 17 rfl rfl)
theorem dX6_years_88 : decode cX6_years 88 = .ok (.bipush 8, 2) := dk_16 8 (dk_at dksX6_years_3 20 rfl rfl)
theorem dX6_years_90 : decode cX6_years 90 = .ok (.aload_n 0, 1) := dk_42 (dk_at dksX6_years_3 22 rfl rfl)
theorem dX6_years_91 : decode cX6_years 91 = .ok (.getfield 7, 3) := dk_180 0 7 (dk_at dksX6_years_4 0 rfl rfl)
theorem dX6_years_94 : decode cX6_years 94 = .ok (.sipush 1672, 3) := dk_17 6 136 (dk_at dksX6_years_4 3 rfl rfl)
theorem dX6_years_97 : decode cX6_years 97 = .ok (.iaload, 1) := dk_46 (dk_at dksX6_years_4 6 rfl rfl)
theorem dX6_years_98 : decode cX6_years 98 = .ok (.iastore, 1) := dk_79 (dk_at dksX6_years_4 7 rfl rfl)
theorem dX6_years_99 : decode cX6_years 99 = .ok (.bipush 48, 2) := dk_16 48 (dk_at dksX6_years_4 8 rfl rfl)
theorem dX6_years_101 : decode cX6_years 101 = .ok (.istore_n 3, 1) := dk_62 (dk_at dksX6_years_4 10 rfl rfl)
theorem dX6_years_102 : decode cX6_years 102 = .ok (.iload_n 3, 1) := dk_29 (dk_at dksX6_years_4 11 rfl rfl)
theorem dX6_years_103 : decode cX6_years 103 = .ok (.sipush 408, 3) := dk_17 1 152 (dk_at dksX6_years_4 12 rfl rfl)
theorem dX6_years_106 : decode cX6_years 106 = .ok (.if_icmp .ge 25, 3) := dk_162 0 25 (dk_at dksX6_years_4 15 rfl rfl)
theorem dX6_years_109 : decode cX6_years 109 = .ok (.aload_n 0, 1) := dk_42 (dk_at dksX6_years_4 18 rfl rfl)
theorem dX6_years_110 : decode cX6_years 110 = .ok (.getfield 7, 3) := dk_180 0 7 (dk_at dksX6_years_4 19 rfl rfl)
theorem dX6_years_113 : decode cX6_years 113 = .ok (.iload_n 3, 1) := dk_29 (dk_at dksX6_years_4 22 rfl rfl)
theorem dX6_years_114 : decode cX6_years 114 = .ok (.aload_n 0, 1) := dk_42 (dk_at dksX6_years_4 23 rfl rfl)
theorem dX6_years_115 : decode cX6_years 115 = .ok (.getfield 7, 3) := dk_180 0 7 (dk_at dksX6_years_5 0 rfl rfl)
theorem dX6_years_118 : decode cX6_years 118 = .ok (.sipush 1664, 3) := dk_17 6 128 (dk_at dksX6_years_5 3 rfl rfl)
theorem dX6_years_121 : decode cX6_years 121 = .ok (.iload_n 3, 1) := dk_29 (dk_at dksX6_years_5 6 rfl rfl)
theorem dX6_years_122 : decode cX6_years 122 = .ok (.iadd, 1) := dk_96 (dk_at dksX6_years_5 7 rfl rfl)
theorem dX6_years_123 : decode cX6_years 123 = .ok (.iaload, 1) := dk_46 (dk_at dksX6_years_5 8 rfl rfl)
theorem dX6_years_124 : decode cX6_years 124 = .ok (.iastore, 1) := dk_79 (dk_at dksX6_years_5 9 rfl rfl)
theorem dX6_years_125 : decode cX6_years 125 = .ok (.iinc 3 1, 3) := dk_132 3 1 (dk_at dksX6_years_5 10 rfl rfl)
theorem dX6_years_128 : decode cX6_years 128 = .ok (.goto (-26), 3) := dk_167 255 230 (dk_at dksX6_years_5 13 rfl rfl)
theorem dX6_years_131 : decode cX6_years 131 = .ok (.aload_n 0, 1) := dk_42 (dk_at dksX6_years_5 16 rfl rfl)
theorem dX6_years_132 : decode cX6_years 132 = .ok (.aload_n 0, 1) := dk_42 (dk_at dksX6_years_5 17 rfl rfl)
theorem dX6_years_133 : decode cX6_years 133 = .ok (.getfield 244, 3) := dk_180 0 244 (dk_at dksX6_years_5 18 rfl rfl)
theorem dX6_years_136 : decode cX6_years 136 = .ok (.invokevirtual 229, 3) := dk_182 0 229 (dk_at dksX6_years_5 21 rfl rfl)
theorem dX6_years_139 : decode cX6_years 139 = .ok (.ireturn, 1) := dk_172 (dk_at dksX6_years_6 0 rfl rfl)
abbrev cX6_yearStep : ByteArray := prog_15_method_52_code
def yX6_yearStep : MethodName := ⟨RX6, "yearStep", "()Z"⟩
def dkwX6_yearStep_12 : List UInt8 := [182, 0, 219, 172]
abbrev dktX6_yearStep_12 : List UInt8 := dkwX6_yearStep_12 ++ []
def dkwX6_yearStep_11 : List UInt8 := [17, 6, 176, 16, 6, 42, 180, 0, 44, 42, 180, 0, 241, 46, 104, 96, 7, 96, 28, 79, 42, 16, 59]
abbrev dktX6_yearStep_11 : List UInt8 := dkwX6_yearStep_11 ++ dktX6_yearStep_12
def dkwX6_yearStep_10 : List UInt8 := [181, 0, 241, 42, 180, 0, 7, 29, 7, 96, 42, 180, 0, 44, 42, 180, 0, 241, 46, 79, 42, 180, 0, 7]
abbrev dktX6_yearStep_10 : List UInt8 := dkwX6_yearStep_10 ++ dktX6_yearStep_11
def dkwX6_yearStep_9 : List UInt8 := [42, 89, 180, 0, 241, 4, 96, 181, 0, 241, 27, 16, 19, 160, 0, 54, 42, 89, 180, 0, 241, 4, 100]
abbrev dktX6_yearStep_9 : List UInt8 := dkwX6_yearStep_9 ++ dktX6_yearStep_10
def dkwX6_yearStep_8 : List UInt8 := [29, 182, 0, 247, 154, 0, 5, 3, 172, 21, 4, 153, 0, 23, 42, 180, 0, 44, 42, 180, 0, 241, 28, 79]
abbrev dktX6_yearStep_8 : List UInt8 := dkwX6_yearStep_8 ++ dktX6_yearStep_9
def dkwX6_yearStep_7 : List UInt8 := [132, 5, 1, 167, 255, 236, 42, 180, 0, 7, 17, 6, 136, 92, 46, 4, 96, 79, 42, 182, 0, 154, 42, 27]
abbrev dktX6_yearStep_7 : List UInt8 := dkwX6_yearStep_7 ++ dktX6_yearStep_8
def dkwX6_yearStep_6 : List UInt8 := [29, 27, 79, 4, 54, 5, 21, 5, 16, 6, 162, 0, 19, 42, 180, 0, 7, 29, 21, 5, 96, 3, 79]
abbrev dktX6_yearStep_6 : List UInt8 := dkwX6_yearStep_6 ++ dktX6_yearStep_7
def dkwX6_yearStep_5 : List UInt8 := [42, 89, 180, 0, 244, 27, 16, 19, 160, 0, 7, 3, 167, 0, 4, 4, 96, 181, 0, 244, 42, 180, 0, 7]
abbrev dktX6_yearStep_5 : List UInt8 := dkwX6_yearStep_5 ++ dktX6_yearStep_6
def dkwX6_yearStep_4 : List UInt8 := [182, 0, 160, 172, 21, 4, 153, 0, 18, 42, 180, 0, 241, 6, 160, 0, 10, 42, 16, 7, 182, 0, 160, 172]
abbrev dktX6_yearStep_4 : List UInt8 := dkwX6_yearStep_4 ++ dktX6_yearStep_5
def dkwX6_yearStep_3 : List UInt8 := [182, 0, 160, 172, 27, 16, 19, 159, 0, 19, 42, 180, 0, 244, 16, 30, 160, 0, 10, 42, 16, 6]
abbrev dktX6_yearStep_3 : List UInt8 := dkwX6_yearStep_3 ++ dktX6_yearStep_4
def dkwX6_yearStep_2 : List UInt8 := [161, 0, 22, 27, 16, 20, 163, 0, 16, 27, 16, 19, 160, 0, 16, 42, 180, 0, 241, 154, 0, 9, 42, 5]
abbrev dktX6_yearStep_2 : List UInt8 := dkwX6_yearStep_2 ++ dktX6_yearStep_3
def dkwX6_yearStep_1 : List UInt8 := [62, 27, 16, 17, 159, 0, 9, 27, 16, 18, 160, 0, 7, 4, 167, 0, 4, 3, 54, 4, 27, 16, 11]
abbrev dktX6_yearStep_1 : List UInt8 := dkwX6_yearStep_1 ++ dktX6_yearStep_2
def dkwX6_yearStep_0 : List UInt8 := [42, 18, 171, 182, 0, 163, 60, 42, 180, 0, 7, 17, 6, 136, 46, 61, 17, 6, 176, 16, 6, 28, 104, 96]
abbrev dktX6_yearStep_0 : List UInt8 := dkwX6_yearStep_0 ++ dktX6_yearStep_1
theorem dksX6_yearStep_0 : cX6_yearStep.data.toList.drop 0 = dktX6_yearStep_0 := by decide +kernel
theorem dksX6_yearStep_1 : cX6_yearStep.data.toList.drop 24 = dktX6_yearStep_1 := dk_seg dksX6_yearStep_0 24 rfl rfl
theorem dksX6_yearStep_2 : cX6_yearStep.data.toList.drop 47 = dktX6_yearStep_2 := dk_seg dksX6_yearStep_1 23 rfl rfl
theorem dksX6_yearStep_3 : cX6_yearStep.data.toList.drop 71 = dktX6_yearStep_3 := dk_seg dksX6_yearStep_2 24 rfl rfl
theorem dksX6_yearStep_4 : cX6_yearStep.data.toList.drop 93 = dktX6_yearStep_4 := dk_seg dksX6_yearStep_3 22 rfl rfl
theorem dksX6_yearStep_5 : cX6_yearStep.data.toList.drop 117 = dktX6_yearStep_5 := dk_seg dksX6_yearStep_4 24 rfl rfl
theorem dksX6_yearStep_6 : cX6_yearStep.data.toList.drop 141 = dktX6_yearStep_6 := dk_seg dksX6_yearStep_5 24 rfl rfl
theorem dksX6_yearStep_7 : cX6_yearStep.data.toList.drop 164 = dktX6_yearStep_7 := dk_seg dksX6_yearStep_6 23 rfl rfl
theorem dksX6_yearStep_8 : cX6_yearStep.data.toList.drop 188 = dktX6_yearStep_8 := dk_seg dksX6_yearStep_7 24 rfl rfl
theorem dksX6_yearStep_9 : cX6_yearStep.data.toList.drop 212 = dktX6_yearStep_9 := dk_seg dksX6_yearStep_8 24 rfl rfl
theorem dksX6_yearStep_10 : cX6_yearStep.data.toList.drop 235 = dktX6_yearStep_10 := dk_seg dksX6_yearStep_9 23 rfl rfl
theorem dksX6_yearStep_11 : cX6_yearStep.data.toList.drop 259 = dktX6_yearStep_11 := dk_seg dksX6_yearStep_10 24 rfl rfl
theorem dksX6_yearStep_12 : cX6_yearStep.data.toList.drop 282 = dktX6_yearStep_12 := dk_seg dksX6_yearStep_11 23 rfl rfl
theorem dX6_yearStep_0 : decode cX6_yearStep 0 = .ok (.aload_n 0, 1) := dk_42 (dk_at dksX6_yearStep_0 0 rfl rfl)
theorem dX6_yearStep_1 : decode cX6_yearStep 1 = .ok (.ldc 171, 2) := dk_18 171 (dk_at dksX6_yearStep_0 1 rfl rfl)
theorem dX6_yearStep_3 : decode cX6_yearStep 3 = .ok (.invokevirtual 163, 3) := dk_182 0 163 (dk_at dksX6_yearStep_0 3 rfl rfl)
theorem dX6_yearStep_6 : decode cX6_yearStep 6 = .ok (.istore_n 1, 1) := dk_60 (dk_at dksX6_yearStep_0 6 rfl rfl)
theorem dX6_yearStep_7 : decode cX6_yearStep 7 = .ok (.aload_n 0, 1) := dk_42 (dk_at dksX6_yearStep_0 7 rfl rfl)
theorem dX6_yearStep_8 : decode cX6_yearStep 8 = .ok (.getfield 7, 3) := dk_180 0 7 (dk_at dksX6_yearStep_0 8 rfl rfl)
theorem dX6_yearStep_11 : decode cX6_yearStep 11 = .ok (.sipush 1672, 3) := dk_17 6 136 (dk_at dksX6_yearStep_0 11 rfl rfl)
theorem dX6_yearStep_14 : decode cX6_yearStep 14 = .ok (.iaload, 1) := dk_46 (dk_at dksX6_yearStep_0 14 rfl rfl)
theorem dX6_yearStep_15 : decode cX6_yearStep 15 = .ok (.istore_n 2, 1) := dk_61 (dk_at dksX6_yearStep_0 15 rfl rfl)
theorem dX6_yearStep_16 : decode cX6_yearStep 16 = .ok (.sipush 1712, 3) := dk_17 6 176 (dk_at dksX6_yearStep_0 16 rfl rfl)
theorem dX6_yearStep_19 : decode cX6_yearStep 19 = .ok (.bipush 6, 2) := dk_16 6 (dk_at dksX6_yearStep_0 19 rfl rfl)
theorem dX6_yearStep_21 : decode cX6_yearStep 21 = .ok (.iload_n 2, 1) := dk_28 (dk_at dksX6_yearStep_0 21 rfl rfl)
theorem dX6_yearStep_22 : decode cX6_yearStep 22 = .ok (.imul, 1) := dk_104 (dk_at dksX6_yearStep_0 22 rfl rfl)
theorem dX6_yearStep_23 : decode cX6_yearStep 23 = .ok (.iadd, 1) := dk_96 (dk_at dksX6_yearStep_0 23 rfl rfl)
theorem dX6_yearStep_24 : decode cX6_yearStep 24 = .ok (.istore_n 3, 1) := dk_62 (dk_at dksX6_yearStep_1 0 rfl rfl)
theorem dX6_yearStep_25 : decode cX6_yearStep 25 = .ok (.iload_n 1, 1) := dk_27 (dk_at dksX6_yearStep_1 1 rfl rfl)
theorem dX6_yearStep_26 : decode cX6_yearStep 26 = .ok (.bipush 17, 2) := dk_16 17 (dk_at dksX6_yearStep_1 2 rfl rfl)
theorem dX6_yearStep_28 : decode cX6_yearStep 28 = .ok (.if_icmp .eq 9, 3) := dk_159 0 9 (dk_at dksX6_yearStep_1 4 rfl rfl)
theorem dX6_yearStep_31 : decode cX6_yearStep 31 = .ok (.iload_n 1, 1) := dk_27 (dk_at dksX6_yearStep_1 7 rfl rfl)
theorem dX6_yearStep_32 : decode cX6_yearStep 32 = .ok (.bipush 18, 2) := dk_16 18 (dk_at dksX6_yearStep_1 8 rfl rfl)
theorem dX6_yearStep_34 : decode cX6_yearStep 34 = .ok (.if_icmp .ne 7, 3) := dk_160 0 7 (dk_at dksX6_yearStep_1 10 rfl rfl)
theorem dX6_yearStep_37 : decode cX6_yearStep 37 = .ok (.iconst 1, 1) := dk_4 (dk_at dksX6_yearStep_1 13 rfl rfl)
theorem dX6_yearStep_38 : decode cX6_yearStep 38 = .ok (.goto 4, 3) := dk_167 0 4 (dk_at dksX6_yearStep_1 14 rfl rfl)
theorem dX6_yearStep_41 : decode cX6_yearStep 41 = .ok (.iconst 0, 1) := dk_3 (dk_at dksX6_yearStep_1 17 rfl rfl)
theorem dX6_yearStep_42 : decode cX6_yearStep 42 = .ok (.istore 4, 2) := dk_54 4 (dk_at dksX6_yearStep_1 18 rfl rfl)
theorem dX6_yearStep_44 : decode cX6_yearStep 44 = .ok (.iload_n 1, 1) := dk_27 (dk_at dksX6_yearStep_1 20 rfl rfl)
theorem dX6_yearStep_45 : decode cX6_yearStep 45 = .ok (.bipush 11, 2) := dk_16 11 (dk_at dksX6_yearStep_1 21 rfl rfl)
theorem dX6_yearStep_47 : decode cX6_yearStep 47 = .ok (.if_icmp .lt 22, 3) := dk_161 0 22 (dk_at dksX6_yearStep_2 0 rfl rfl)
theorem dX6_yearStep_50 : decode cX6_yearStep 50 = .ok (.iload_n 1, 1) := dk_27 (dk_at dksX6_yearStep_2 3 rfl rfl)
theorem dX6_yearStep_51 : decode cX6_yearStep 51 = .ok (.bipush 20, 2) := dk_16 20 (dk_at dksX6_yearStep_2 4 rfl rfl)
theorem dX6_yearStep_53 : decode cX6_yearStep 53 = .ok (.if_icmp .gt 16, 3) := dk_163 0 16 (dk_at dksX6_yearStep_2 6 rfl rfl)
theorem dX6_yearStep_56 : decode cX6_yearStep 56 = .ok (.iload_n 1, 1) := dk_27 (dk_at dksX6_yearStep_2 9 rfl rfl)
theorem dX6_yearStep_57 : decode cX6_yearStep 57 = .ok (.bipush 19, 2) := dk_16 19 (dk_at dksX6_yearStep_2 10 rfl rfl)
theorem dX6_yearStep_59 : decode cX6_yearStep 59 = .ok (.if_icmp .ne 16, 3) := dk_160 0 16 (dk_at dksX6_yearStep_2 12 rfl rfl)
theorem dX6_yearStep_62 : decode cX6_yearStep 62 = .ok (.aload_n 0, 1) := dk_42 (dk_at dksX6_yearStep_2 15 rfl rfl)
theorem dX6_yearStep_63 : decode cX6_yearStep 63 = .ok (.getfield 241, 3) := dk_180 0 241 (dk_at dksX6_yearStep_2 16 rfl rfl)
theorem dX6_yearStep_66 : decode cX6_yearStep 66 = .ok (.ifCond .ne 9, 3) := dk_154 0 9 (dk_at dksX6_yearStep_2 19 rfl rfl)
theorem dX6_yearStep_69 : decode cX6_yearStep 69 = .ok (.aload_n 0, 1) := dk_42 (dk_at dksX6_yearStep_2 22 rfl rfl)
theorem dX6_yearStep_70 : decode cX6_yearStep 70 = .ok (.iconst 2, 1) := dk_5 (dk_at dksX6_yearStep_2 23 rfl rfl)
theorem dX6_yearStep_71 : decode cX6_yearStep 71 = .ok (.invokevirtual 160, 3) := dk_182 0 160 (dk_at dksX6_yearStep_3 0 rfl rfl)
theorem dX6_yearStep_74 : decode cX6_yearStep 74 = .ok (.ireturn, 1) := dk_172 (dk_at dksX6_yearStep_3 3 rfl rfl)
theorem dX6_yearStep_75 : decode cX6_yearStep 75 = .ok (.iload_n 1, 1) := dk_27 (dk_at dksX6_yearStep_3 4 rfl rfl)
theorem dX6_yearStep_76 : decode cX6_yearStep 76 = .ok (.bipush 19, 2) := dk_16 19 (dk_at dksX6_yearStep_3 5 rfl rfl)
theorem dX6_yearStep_78 : decode cX6_yearStep 78 = .ok (.if_icmp .eq 19, 3) := dk_159 0 19 (dk_at dksX6_yearStep_3 7 rfl rfl)
theorem dX6_yearStep_81 : decode cX6_yearStep 81 = .ok (.aload_n 0, 1) := dk_42 (dk_at dksX6_yearStep_3 10 rfl rfl)
theorem dX6_yearStep_82 : decode cX6_yearStep 82 = .ok (.getfield 244, 3) := dk_180 0 244 (dk_at dksX6_yearStep_3 11 rfl rfl)
theorem dX6_yearStep_85 : decode cX6_yearStep 85 = .ok (.bipush 30, 2) := dk_16 30 (dk_at dksX6_yearStep_3 14 rfl rfl)
theorem dX6_yearStep_87 : decode cX6_yearStep 87 = .ok (.if_icmp .ne 10, 3) := dk_160 0 10 (dk_at dksX6_yearStep_3 16 rfl rfl)
theorem dX6_yearStep_90 : decode cX6_yearStep 90 = .ok (.aload_n 0, 1) := dk_42 (dk_at dksX6_yearStep_3 19 rfl rfl)
theorem dX6_yearStep_91 : decode cX6_yearStep 91 = .ok (.bipush 6, 2) := dk_16 6 (dk_at dksX6_yearStep_3 20 rfl rfl)
theorem dX6_yearStep_93 : decode cX6_yearStep 93 = .ok (.invokevirtual 160, 3) := dk_182 0 160 (dk_at dksX6_yearStep_4 0 rfl rfl)
theorem dX6_yearStep_96 : decode cX6_yearStep 96 = .ok (.ireturn, 1) := dk_172 (dk_at dksX6_yearStep_4 3 rfl rfl)
theorem dX6_yearStep_97 : decode cX6_yearStep 97 = .ok (.iload 4, 2) := dk_21 4 (dk_at dksX6_yearStep_4 4 rfl rfl)
theorem dX6_yearStep_99 : decode cX6_yearStep 99 = .ok (.ifCond .eq 18, 3) := dk_153 0 18 (dk_at dksX6_yearStep_4 6 rfl rfl)
theorem dX6_yearStep_102 : decode cX6_yearStep 102 = .ok (.aload_n 0, 1) := dk_42 (dk_at dksX6_yearStep_4 9 rfl rfl)
theorem dX6_yearStep_103 : decode cX6_yearStep 103 = .ok (.getfield 241, 3) := dk_180 0 241 (dk_at dksX6_yearStep_4 10 rfl rfl)
theorem dX6_yearStep_106 : decode cX6_yearStep 106 = .ok (.iconst 3, 1) := dk_6 (dk_at dksX6_yearStep_4 13 rfl rfl)
theorem dX6_yearStep_107 : decode cX6_yearStep 107 = .ok (.if_icmp .ne 10, 3) := dk_160 0 10 (dk_at dksX6_yearStep_4 14 rfl rfl)
theorem dX6_yearStep_110 : decode cX6_yearStep 110 = .ok (.aload_n 0, 1) := dk_42 (dk_at dksX6_yearStep_4 17 rfl rfl)
theorem dX6_yearStep_111 : decode cX6_yearStep 111 = .ok (.bipush 7, 2) := dk_16 7 (dk_at dksX6_yearStep_4 18 rfl rfl)
theorem dX6_yearStep_113 : decode cX6_yearStep 113 = .ok (.invokevirtual 160, 3) := dk_182 0 160 (dk_at dksX6_yearStep_4 20 rfl rfl)
theorem dX6_yearStep_116 : decode cX6_yearStep 116 = .ok (.ireturn, 1) := dk_172 (dk_at dksX6_yearStep_4 23 rfl rfl)
theorem dX6_yearStep_117 : decode cX6_yearStep 117 = .ok (.aload_n 0, 1) := dk_42 (dk_at dksX6_yearStep_5 0 rfl rfl)
theorem dX6_yearStep_118 : decode cX6_yearStep 118 = .ok (.dup, 1) := dk_89 (dk_at dksX6_yearStep_5 1 rfl rfl)
theorem dX6_yearStep_119 : decode cX6_yearStep 119 = .ok (.getfield 244, 3) := dk_180 0 244 (dk_at dksX6_yearStep_5 2 rfl rfl)
theorem dX6_yearStep_122 : decode cX6_yearStep 122 = .ok (.iload_n 1, 1) := dk_27 (dk_at dksX6_yearStep_5 5 rfl rfl)
theorem dX6_yearStep_123 : decode cX6_yearStep 123 = .ok (.bipush 19, 2) := dk_16 19 (dk_at dksX6_yearStep_5 6 rfl rfl)
theorem dX6_yearStep_125 : decode cX6_yearStep 125 = .ok (.if_icmp .ne 7, 3) := dk_160 0 7 (dk_at dksX6_yearStep_5 8 rfl rfl)
theorem dX6_yearStep_128 : decode cX6_yearStep 128 = .ok (.iconst 0, 1) := dk_3 (dk_at dksX6_yearStep_5 11 rfl rfl)
theorem dX6_yearStep_129 : decode cX6_yearStep 129 = .ok (.goto 4, 3) := dk_167 0 4 (dk_at dksX6_yearStep_5 12 rfl rfl)
theorem dX6_yearStep_132 : decode cX6_yearStep 132 = .ok (.iconst 1, 1) := dk_4 (dk_at dksX6_yearStep_5 15 rfl rfl)
theorem dX6_yearStep_133 : decode cX6_yearStep 133 = .ok (.iadd, 1) := dk_96 (dk_at dksX6_yearStep_5 16 rfl rfl)
theorem dX6_yearStep_134 : decode cX6_yearStep 134 = .ok (.putfield 244, 3) := dk_181 0 244 (dk_at dksX6_yearStep_5 17 rfl rfl)
theorem dX6_yearStep_137 : decode cX6_yearStep 137 = .ok (.aload_n 0, 1) := dk_42 (dk_at dksX6_yearStep_5 20 rfl rfl)
theorem dX6_yearStep_138 : decode cX6_yearStep 138 = .ok (.getfield 7, 3) := dk_180 0 7 (dk_at dksX6_yearStep_5 21 rfl rfl)
theorem dX6_yearStep_141 : decode cX6_yearStep 141 = .ok (.iload_n 3, 1) := dk_29 (dk_at dksX6_yearStep_6 0 rfl rfl)
theorem dX6_yearStep_142 : decode cX6_yearStep 142 = .ok (.iload_n 1, 1) := dk_27 (dk_at dksX6_yearStep_6 1 rfl rfl)
theorem dX6_yearStep_143 : decode cX6_yearStep 143 = .ok (.iastore, 1) := dk_79 (dk_at dksX6_yearStep_6 2 rfl rfl)
theorem dX6_yearStep_144 : decode cX6_yearStep 144 = .ok (.iconst 1, 1) := dk_4 (dk_at dksX6_yearStep_6 3 rfl rfl)
theorem dX6_yearStep_145 : decode cX6_yearStep 145 = .ok (.istore 5, 2) := dk_54 5 (dk_at dksX6_yearStep_6 4 rfl rfl)
theorem dX6_yearStep_147 : decode cX6_yearStep 147 = .ok (.iload 5, 2) := dk_21 5 (dk_at dksX6_yearStep_6 6 rfl rfl)
theorem dX6_yearStep_149 : decode cX6_yearStep 149 = .ok (.bipush 6, 2) := dk_16 6 (dk_at dksX6_yearStep_6 8 rfl rfl)
theorem dX6_yearStep_151 : decode cX6_yearStep 151 = .ok (.if_icmp .ge 19, 3) := dk_162 0 19 (dk_at dksX6_yearStep_6 10 rfl rfl)
theorem dX6_yearStep_154 : decode cX6_yearStep 154 = .ok (.aload_n 0, 1) := dk_42 (dk_at dksX6_yearStep_6 13 rfl rfl)
theorem dX6_yearStep_155 : decode cX6_yearStep 155 = .ok (.getfield 7, 3) := dk_180 0 7 (dk_at dksX6_yearStep_6 14 rfl rfl)
theorem dX6_yearStep_158 : decode cX6_yearStep 158 = .ok (.iload_n 3, 1) := dk_29 (dk_at dksX6_yearStep_6 17 rfl rfl)
theorem dX6_yearStep_159 : decode cX6_yearStep 159 = .ok (.iload 5, 2) := dk_21 5 (dk_at dksX6_yearStep_6 18 rfl rfl)
theorem dX6_yearStep_161 : decode cX6_yearStep 161 = .ok (.iadd, 1) := dk_96 (dk_at dksX6_yearStep_6 20 rfl rfl)
theorem dX6_yearStep_162 : decode cX6_yearStep 162 = .ok (.iconst 0, 1) := dk_3 (dk_at dksX6_yearStep_6 21 rfl rfl)
theorem dX6_yearStep_163 : decode cX6_yearStep 163 = .ok (.iastore, 1) := dk_79 (dk_at dksX6_yearStep_6 22 rfl rfl)
theorem dX6_yearStep_164 : decode cX6_yearStep 164 = .ok (.iinc 5 1, 3) := dk_132 5 1 (dk_at dksX6_yearStep_7 0 rfl rfl)
theorem dX6_yearStep_167 : decode cX6_yearStep 167 = .ok (.goto (-20), 3) := dk_167 255 236 (dk_at dksX6_yearStep_7 3 rfl rfl)
theorem dX6_yearStep_170 : decode cX6_yearStep 170 = .ok (.aload_n 0, 1) := dk_42 (dk_at dksX6_yearStep_7 6 rfl rfl)
theorem dX6_yearStep_171 : decode cX6_yearStep 171 = .ok (.getfield 7, 3) := dk_180 0 7 (dk_at dksX6_yearStep_7 7 rfl rfl)
theorem dX6_yearStep_174 : decode cX6_yearStep 174 = .ok (.sipush 1672, 3) := dk_17 6 136 (dk_at dksX6_yearStep_7 10 rfl rfl)
theorem dX6_yearStep_177 : decode cX6_yearStep 177 = .ok (.dup2, 1) := dk_92 (dk_at dksX6_yearStep_7 13 rfl rfl)
theorem dX6_yearStep_178 : decode cX6_yearStep 178 = .ok (.iaload, 1) := dk_46 (dk_at dksX6_yearStep_7 14 rfl rfl)
theorem dX6_yearStep_179 : decode cX6_yearStep 179 = .ok (.iconst 1, 1) := dk_4 (dk_at dksX6_yearStep_7 15 rfl rfl)
theorem dX6_yearStep_180 : decode cX6_yearStep 180 = .ok (.iadd, 1) := dk_96 (dk_at dksX6_yearStep_7 16 rfl rfl)
theorem dX6_yearStep_181 : decode cX6_yearStep 181 = .ok (.iastore, 1) := dk_79 (dk_at dksX6_yearStep_7 17 rfl rfl)
theorem dX6_yearStep_182 : decode cX6_yearStep 182 = .ok (.aload_n 0, 1) := dk_42 (dk_at dksX6_yearStep_7 18 rfl rfl)
theorem dX6_yearStep_183 : decode cX6_yearStep 183 = .ok (.invokevirtual 154, 3) := dk_182 0 154 (dk_at dksX6_yearStep_7 19 rfl rfl)
theorem dX6_yearStep_186 : decode cX6_yearStep 186 = .ok (.aload_n 0, 1) := dk_42 (dk_at dksX6_yearStep_7 22 rfl rfl)
theorem dX6_yearStep_187 : decode cX6_yearStep 187 = .ok (.iload_n 1, 1) := dk_27 (dk_at dksX6_yearStep_7 23 rfl rfl)
theorem dX6_yearStep_188 : decode cX6_yearStep 188 = .ok (.iload_n 3, 1) := dk_29 (dk_at dksX6_yearStep_8 0 rfl rfl)
theorem dX6_yearStep_189 : decode cX6_yearStep 189 = .ok (.invokevirtual 247, 3) := dk_182 0 247 (dk_at dksX6_yearStep_8 1 rfl rfl)
theorem dX6_yearStep_192 : decode cX6_yearStep 192 = .ok (.ifCond .ne 5, 3) := dk_154 0 5 (dk_at dksX6_yearStep_8 4 rfl rfl)
theorem dX6_yearStep_195 : decode cX6_yearStep 195 = .ok (.iconst 0, 1) := dk_3 (dk_at dksX6_yearStep_8 7 rfl rfl)
theorem dX6_yearStep_196 : decode cX6_yearStep 196 = .ok (.ireturn, 1) := dk_172 (dk_at dksX6_yearStep_8 8 rfl rfl)
theorem dX6_yearStep_197 : decode cX6_yearStep 197 = .ok (.iload 4, 2) := dk_21 4 (dk_at dksX6_yearStep_8 9 rfl rfl)
theorem dX6_yearStep_199 : decode cX6_yearStep 199 = .ok (.ifCond .eq 23, 3) := dk_153 0 23 (dk_at dksX6_yearStep_8 11 rfl rfl)
theorem dX6_yearStep_202 : decode cX6_yearStep 202 = .ok (.aload_n 0, 1) := dk_42 (dk_at dksX6_yearStep_8 14 rfl rfl)
theorem dX6_yearStep_203 : decode cX6_yearStep 203 = .ok (.getfield 44, 3) := dk_180 0 44 (dk_at dksX6_yearStep_8 15 rfl rfl)
theorem dX6_yearStep_206 : decode cX6_yearStep 206 = .ok (.aload_n 0, 1) := dk_42 (dk_at dksX6_yearStep_8 18 rfl rfl)
theorem dX6_yearStep_207 : decode cX6_yearStep 207 = .ok (.getfield 241, 3) := dk_180 0 241 (dk_at dksX6_yearStep_8 19 rfl rfl)
theorem dX6_yearStep_210 : decode cX6_yearStep 210 = .ok (.iload_n 2, 1) := dk_28 (dk_at dksX6_yearStep_8 22 rfl rfl)
theorem dX6_yearStep_211 : decode cX6_yearStep 211 = .ok (.iastore, 1) := dk_79 (dk_at dksX6_yearStep_8 23 rfl rfl)
theorem dX6_yearStep_212 : decode cX6_yearStep 212 = .ok (.aload_n 0, 1) := dk_42 (dk_at dksX6_yearStep_9 0 rfl rfl)
theorem dX6_yearStep_213 : decode cX6_yearStep 213 = .ok (.dup, 1) := dk_89 (dk_at dksX6_yearStep_9 1 rfl rfl)
theorem dX6_yearStep_214 : decode cX6_yearStep 214 = .ok (.getfield 241, 3) := dk_180 0 241 (dk_at dksX6_yearStep_9 2 rfl rfl)
theorem dX6_yearStep_217 : decode cX6_yearStep 217 = .ok (.iconst 1, 1) := dk_4 (dk_at dksX6_yearStep_9 5 rfl rfl)
theorem dX6_yearStep_218 : decode cX6_yearStep 218 = .ok (.iadd, 1) := dk_96 (dk_at dksX6_yearStep_9 6 rfl rfl)
theorem dX6_yearStep_219 : decode cX6_yearStep 219 = .ok (.putfield 241, 3) := dk_181 0 241 (dk_at dksX6_yearStep_9 7 rfl rfl)
theorem dX6_yearStep_222 : decode cX6_yearStep 222 = .ok (.iload_n 1, 1) := dk_27 (dk_at dksX6_yearStep_9 10 rfl rfl)
theorem dX6_yearStep_223 : decode cX6_yearStep 223 = .ok (.bipush 19, 2) := dk_16 19 (dk_at dksX6_yearStep_9 11 rfl rfl)
theorem dX6_yearStep_225 : decode cX6_yearStep 225 = .ok (.if_icmp .ne 54, 3) := dk_160 0 54 (dk_at dksX6_yearStep_9 13 rfl rfl)
theorem dX6_yearStep_228 : decode cX6_yearStep 228 = .ok (.aload_n 0, 1) := dk_42 (dk_at dksX6_yearStep_9 16 rfl rfl)
theorem dX6_yearStep_229 : decode cX6_yearStep 229 = .ok (.dup, 1) := dk_89 (dk_at dksX6_yearStep_9 17 rfl rfl)
theorem dX6_yearStep_230 : decode cX6_yearStep 230 = .ok (.getfield 241, 3) := dk_180 0 241 (dk_at dksX6_yearStep_9 18 rfl rfl)
theorem dX6_yearStep_233 : decode cX6_yearStep 233 = .ok (.iconst 1, 1) := dk_4 (dk_at dksX6_yearStep_9 21 rfl rfl)
theorem dX6_yearStep_234 : decode cX6_yearStep 234 = .ok (.isub, 1) := dk_100 (dk_at dksX6_yearStep_9 22 rfl rfl)
theorem dX6_yearStep_235 : decode cX6_yearStep 235 = .ok (.putfield 241, 3) := dk_181 0 241 (dk_at dksX6_yearStep_10 0 rfl rfl)
theorem dX6_yearStep_238 : decode cX6_yearStep 238 = .ok (.aload_n 0, 1) := dk_42 (dk_at dksX6_yearStep_10 3 rfl rfl)
theorem dX6_yearStep_239 : decode cX6_yearStep 239 = .ok (.getfield 7, 3) := dk_180 0 7 (dk_at dksX6_yearStep_10 4 rfl rfl)
theorem dX6_yearStep_242 : decode cX6_yearStep 242 = .ok (.iload_n 3, 1) := dk_29 (dk_at dksX6_yearStep_10 7 rfl rfl)
theorem dX6_yearStep_243 : decode cX6_yearStep 243 = .ok (.iconst 4, 1) := dk_7 (dk_at dksX6_yearStep_10 8 rfl rfl)
theorem dX6_yearStep_244 : decode cX6_yearStep 244 = .ok (.iadd, 1) := dk_96 (dk_at dksX6_yearStep_10 9 rfl rfl)
theorem dX6_yearStep_245 : decode cX6_yearStep 245 = .ok (.aload_n 0, 1) := dk_42 (dk_at dksX6_yearStep_10 10 rfl rfl)
theorem dX6_yearStep_246 : decode cX6_yearStep 246 = .ok (.getfield 44, 3) := dk_180 0 44 (dk_at dksX6_yearStep_10 11 rfl rfl)
theorem dX6_yearStep_249 : decode cX6_yearStep 249 = .ok (.aload_n 0, 1) := dk_42 (dk_at dksX6_yearStep_10 14 rfl rfl)
theorem dX6_yearStep_250 : decode cX6_yearStep 250 = .ok (.getfield 241, 3) := dk_180 0 241 (dk_at dksX6_yearStep_10 15 rfl rfl)
theorem dX6_yearStep_253 : decode cX6_yearStep 253 = .ok (.iaload, 1) := dk_46 (dk_at dksX6_yearStep_10 18 rfl rfl)
theorem dX6_yearStep_254 : decode cX6_yearStep 254 = .ok (.iastore, 1) := dk_79 (dk_at dksX6_yearStep_10 19 rfl rfl)
theorem dX6_yearStep_255 : decode cX6_yearStep 255 = .ok (.aload_n 0, 1) := dk_42 (dk_at dksX6_yearStep_10 20 rfl rfl)
theorem dX6_yearStep_256 : decode cX6_yearStep 256 = .ok (.getfield 7, 3) := dk_180 0 7 (dk_at dksX6_yearStep_10 21 rfl rfl)
theorem dX6_yearStep_259 : decode cX6_yearStep 259 = .ok (.sipush 1712, 3) := dk_17 6 176 (dk_at dksX6_yearStep_11 0 rfl rfl)
theorem dX6_yearStep_262 : decode cX6_yearStep 262 = .ok (.bipush 6, 2) := dk_16 6 (dk_at dksX6_yearStep_11 3 rfl rfl)
theorem dX6_yearStep_264 : decode cX6_yearStep 264 = .ok (.aload_n 0, 1) := dk_42 (dk_at dksX6_yearStep_11 5 rfl rfl)
theorem dX6_yearStep_265 : decode cX6_yearStep 265 = .ok (.getfield 44, 3) := dk_180 0 44 (dk_at dksX6_yearStep_11 6 rfl rfl)
theorem dX6_yearStep_268 : decode cX6_yearStep 268 = .ok (.aload_n 0, 1) := dk_42 (dk_at dksX6_yearStep_11 9 rfl rfl)
theorem dX6_yearStep_269 : decode cX6_yearStep 269 = .ok (.getfield 241, 3) := dk_180 0 241 (dk_at dksX6_yearStep_11 10 rfl rfl)
theorem dX6_yearStep_272 : decode cX6_yearStep 272 = .ok (.iaload, 1) := dk_46 (dk_at dksX6_yearStep_11 13 rfl rfl)
theorem dX6_yearStep_273 : decode cX6_yearStep 273 = .ok (.imul, 1) := dk_104 (dk_at dksX6_yearStep_11 14 rfl rfl)
theorem dX6_yearStep_274 : decode cX6_yearStep 274 = .ok (.iadd, 1) := dk_96 (dk_at dksX6_yearStep_11 15 rfl rfl)
theorem dX6_yearStep_275 : decode cX6_yearStep 275 = .ok (.iconst 4, 1) := dk_7 (dk_at dksX6_yearStep_11 16 rfl rfl)
theorem dX6_yearStep_276 : decode cX6_yearStep 276 = .ok (.iadd, 1) := dk_96 (dk_at dksX6_yearStep_11 17 rfl rfl)
theorem dX6_yearStep_277 : decode cX6_yearStep 277 = .ok (.iload_n 2, 1) := dk_28 (dk_at dksX6_yearStep_11 18 rfl rfl)
theorem dX6_yearStep_278 : decode cX6_yearStep 278 = .ok (.iastore, 1) := dk_79 (dk_at dksX6_yearStep_11 19 rfl rfl)
theorem dX6_yearStep_279 : decode cX6_yearStep 279 = .ok (.aload_n 0, 1) := dk_42 (dk_at dksX6_yearStep_11 20 rfl rfl)
theorem dX6_yearStep_280 : decode cX6_yearStep 280 = .ok (.bipush 59, 2) := dk_16 59 (dk_at dksX6_yearStep_11 21 rfl rfl)
theorem dX6_yearStep_282 : decode cX6_yearStep 282 = .ok (.invokevirtual 219, 3) := dk_182 0 219 (dk_at dksX6_yearStep_12 0 rfl rfl)
theorem dX6_yearStep_285 : decode cX6_yearStep 285 = .ok (.ireturn, 1) := dk_172 (dk_at dksX6_yearStep_12 3 rfl rfl)
abbrev cX6_yearOrder : ByteArray := prog_15_method_51_code
def yX6_yearOrder : MethodName := ⟨RX6, "yearOrder", "(II)Z"⟩
def dkwX6_yearOrder_4 : List UInt8 := [4, 96, 4, 16, 99, 182, 0, 188, 172, 42, 28, 182, 0, 238, 172, 4, 172]
abbrev dktX6_yearOrder_4 : List UInt8 := dkwX6_yearOrder_4 ++ []
def dkwX6_yearOrder_3 : List UInt8 := [153, 0, 20, 42, 28, 5, 96, 3, 16, 9, 182, 0, 188, 153, 0, 7, 4, 167, 0, 4, 3, 172, 42, 28]
abbrev dktX6_yearOrder_3 : List UInt8 := dkwX6_yearOrder_3 ++ dktX6_yearOrder_4
def dkwX6_yearOrder_2 : List UInt8 := [42, 28, 4, 96, 182, 0, 232, 172, 42, 28, 4, 96, 182, 0, 235, 172, 42, 28, 4, 96, 182, 0, 235]
abbrev dktX6_yearOrder_2 : List UInt8 := dkwX6_yearOrder_2 ++ dktX6_yearOrder_3
def dkwX6_yearOrder_1 : List UInt8 := [170, 0, 0, 0, 0, 0, 105, 0, 0, 0, 12, 0, 0, 0, 18, 0, 0, 0, 43, 0, 0, 0, 43, 0, 0, 0, 51, 0, 0, 0, 59, 0, 0, 0, 105, 0, 0, 0, 99, 0, 0, 0, 88]
abbrev dktX6_yearOrder_1 : List UInt8 := dkwX6_yearOrder_1 ++ dktX6_yearOrder_2
def dkwX6_yearOrder_0 : List UInt8 := [27]
abbrev dktX6_yearOrder_0 : List UInt8 := dkwX6_yearOrder_0 ++ dktX6_yearOrder_1
theorem dksX6_yearOrder_0 : cX6_yearOrder.data.toList.drop 0 = dktX6_yearOrder_0 := by decide +kernel
theorem dksX6_yearOrder_1 : cX6_yearOrder.data.toList.drop 1 = dktX6_yearOrder_1 := dk_seg dksX6_yearOrder_0 1 rfl rfl
theorem dksX6_yearOrder_2 : cX6_yearOrder.data.toList.drop 44 = dktX6_yearOrder_2 := dk_seg dksX6_yearOrder_1 43 rfl rfl
theorem dksX6_yearOrder_3 : cX6_yearOrder.data.toList.drop 67 = dktX6_yearOrder_3 := dk_seg dksX6_yearOrder_2 23 rfl rfl
theorem dksX6_yearOrder_4 : cX6_yearOrder.data.toList.drop 91 = dktX6_yearOrder_4 := dk_seg dksX6_yearOrder_3 24 rfl rfl
theorem dX6_yearOrder_0 : decode cX6_yearOrder 0 = .ok (.iload_n 1, 1) := dk_27 (dk_at dksX6_yearOrder_0 0 rfl rfl)
theorem dX6_yearOrder_1 : decode cX6_yearOrder 1 = .ok (.tableswitch 105 12 18 #[43, 43, 51, 59, 105, 99, 88], 43) := by decide +kernel
theorem dX6_yearOrder_44 : decode cX6_yearOrder 44 = .ok (.aload_n 0, 1) := dk_42 (dk_at dksX6_yearOrder_2 0 rfl rfl)
theorem dX6_yearOrder_45 : decode cX6_yearOrder 45 = .ok (.iload_n 2, 1) := dk_28 (dk_at dksX6_yearOrder_2 1 rfl rfl)
theorem dX6_yearOrder_46 : decode cX6_yearOrder 46 = .ok (.iconst 1, 1) := dk_4 (dk_at dksX6_yearOrder_2 2 rfl rfl)
theorem dX6_yearOrder_47 : decode cX6_yearOrder 47 = .ok (.iadd, 1) := dk_96 (dk_at dksX6_yearOrder_2 3 rfl rfl)
theorem dX6_yearOrder_48 : decode cX6_yearOrder 48 = .ok (.invokevirtual 232, 3) := dk_182 0 232 (dk_at dksX6_yearOrder_2 4 rfl rfl)
theorem dX6_yearOrder_51 : decode cX6_yearOrder 51 = .ok (.ireturn, 1) := dk_172 (dk_at dksX6_yearOrder_2 7 rfl rfl)
theorem dX6_yearOrder_52 : decode cX6_yearOrder 52 = .ok (.aload_n 0, 1) := dk_42 (dk_at dksX6_yearOrder_2 8 rfl rfl)
theorem dX6_yearOrder_53 : decode cX6_yearOrder 53 = .ok (.iload_n 2, 1) := dk_28 (dk_at dksX6_yearOrder_2 9 rfl rfl)
theorem dX6_yearOrder_54 : decode cX6_yearOrder 54 = .ok (.iconst 1, 1) := dk_4 (dk_at dksX6_yearOrder_2 10 rfl rfl)
theorem dX6_yearOrder_55 : decode cX6_yearOrder 55 = .ok (.iadd, 1) := dk_96 (dk_at dksX6_yearOrder_2 11 rfl rfl)
theorem dX6_yearOrder_56 : decode cX6_yearOrder 56 = .ok (.invokevirtual 235, 3) := dk_182 0 235 (dk_at dksX6_yearOrder_2 12 rfl rfl)
theorem dX6_yearOrder_59 : decode cX6_yearOrder 59 = .ok (.ireturn, 1) := dk_172 (dk_at dksX6_yearOrder_2 15 rfl rfl)
theorem dX6_yearOrder_60 : decode cX6_yearOrder 60 = .ok (.aload_n 0, 1) := dk_42 (dk_at dksX6_yearOrder_2 16 rfl rfl)
theorem dX6_yearOrder_61 : decode cX6_yearOrder 61 = .ok (.iload_n 2, 1) := dk_28 (dk_at dksX6_yearOrder_2 17 rfl rfl)
theorem dX6_yearOrder_62 : decode cX6_yearOrder 62 = .ok (.iconst 1, 1) := dk_4 (dk_at dksX6_yearOrder_2 18 rfl rfl)
theorem dX6_yearOrder_63 : decode cX6_yearOrder 63 = .ok (.iadd, 1) := dk_96 (dk_at dksX6_yearOrder_2 19 rfl rfl)
theorem dX6_yearOrder_64 : decode cX6_yearOrder 64 = .ok (.invokevirtual 235, 3) := dk_182 0 235 (dk_at dksX6_yearOrder_2 20 rfl rfl)
theorem dX6_yearOrder_67 : decode cX6_yearOrder 67 = .ok (.ifCond .eq 20, 3) := dk_153 0 20 (dk_at dksX6_yearOrder_3 0 rfl rfl)
theorem dX6_yearOrder_70 : decode cX6_yearOrder 70 = .ok (.aload_n 0, 1) := dk_42 (dk_at dksX6_yearOrder_3 3 rfl rfl)
theorem dX6_yearOrder_71 : decode cX6_yearOrder 71 = .ok (.iload_n 2, 1) := dk_28 (dk_at dksX6_yearOrder_3 4 rfl rfl)
theorem dX6_yearOrder_72 : decode cX6_yearOrder 72 = .ok (.iconst 2, 1) := dk_5 (dk_at dksX6_yearOrder_3 5 rfl rfl)
theorem dX6_yearOrder_73 : decode cX6_yearOrder 73 = .ok (.iadd, 1) := dk_96 (dk_at dksX6_yearOrder_3 6 rfl rfl)
theorem dX6_yearOrder_74 : decode cX6_yearOrder 74 = .ok (.iconst 0, 1) := dk_3 (dk_at dksX6_yearOrder_3 7 rfl rfl)
theorem dX6_yearOrder_75 : decode cX6_yearOrder 75 = .ok (.bipush 9, 2) := dk_16 9 (dk_at dksX6_yearOrder_3 8 rfl rfl)
theorem dX6_yearOrder_77 : decode cX6_yearOrder 77 = .ok (.invokevirtual 188, 3) := dk_182 0 188 (dk_at dksX6_yearOrder_3 10 rfl rfl)
theorem dX6_yearOrder_80 : decode cX6_yearOrder 80 = .ok (.ifCond .eq 7, 3) := dk_153 0 7 (dk_at dksX6_yearOrder_3 13 rfl rfl)
theorem dX6_yearOrder_83 : decode cX6_yearOrder 83 = .ok (.iconst 1, 1) := dk_4 (dk_at dksX6_yearOrder_3 16 rfl rfl)
theorem dX6_yearOrder_84 : decode cX6_yearOrder 84 = .ok (.goto 4, 3) := dk_167 0 4 (dk_at dksX6_yearOrder_3 17 rfl rfl)
theorem dX6_yearOrder_87 : decode cX6_yearOrder 87 = .ok (.iconst 0, 1) := dk_3 (dk_at dksX6_yearOrder_3 20 rfl rfl)
theorem dX6_yearOrder_88 : decode cX6_yearOrder 88 = .ok (.ireturn, 1) := dk_172 (dk_at dksX6_yearOrder_3 21 rfl rfl)
theorem dX6_yearOrder_89 : decode cX6_yearOrder 89 = .ok (.aload_n 0, 1) := dk_42 (dk_at dksX6_yearOrder_3 22 rfl rfl)
theorem dX6_yearOrder_90 : decode cX6_yearOrder 90 = .ok (.iload_n 2, 1) := dk_28 (dk_at dksX6_yearOrder_3 23 rfl rfl)
theorem dX6_yearOrder_91 : decode cX6_yearOrder 91 = .ok (.iconst 1, 1) := dk_4 (dk_at dksX6_yearOrder_4 0 rfl rfl)
theorem dX6_yearOrder_92 : decode cX6_yearOrder 92 = .ok (.iadd, 1) := dk_96 (dk_at dksX6_yearOrder_4 1 rfl rfl)
theorem dX6_yearOrder_93 : decode cX6_yearOrder 93 = .ok (.iconst 1, 1) := dk_4 (dk_at dksX6_yearOrder_4 2 rfl rfl)
theorem dX6_yearOrder_94 : decode cX6_yearOrder 94 = .ok (.bipush 99, 2) := dk_16 99 (dk_at dksX6_yearOrder_4 3 rfl rfl)
theorem dX6_yearOrder_96 : decode cX6_yearOrder 96 = .ok (.invokevirtual 188, 3) := dk_182 0 188 (dk_at dksX6_yearOrder_4 5 rfl rfl)
theorem dX6_yearOrder_99 : decode cX6_yearOrder 99 = .ok (.ireturn, 1) := dk_172 (dk_at dksX6_yearOrder_4 8 rfl rfl)
theorem dX6_yearOrder_100 : decode cX6_yearOrder 100 = .ok (.aload_n 0, 1) := dk_42 (dk_at dksX6_yearOrder_4 9 rfl rfl)
theorem dX6_yearOrder_101 : decode cX6_yearOrder 101 = .ok (.iload_n 2, 1) := dk_28 (dk_at dksX6_yearOrder_4 10 rfl rfl)
theorem dX6_yearOrder_102 : decode cX6_yearOrder 102 = .ok (.invokevirtual 238, 3) := dk_182 0 238 (dk_at dksX6_yearOrder_4 11 rfl rfl)
theorem dX6_yearOrder_105 : decode cX6_yearOrder 105 = .ok (.ireturn, 1) := dk_172 (dk_at dksX6_yearOrder_4 14 rfl rfl)
theorem dX6_yearOrder_106 : decode cX6_yearOrder 106 = .ok (.iconst 1, 1) := dk_4 (dk_at dksX6_yearOrder_4 15 rfl rfl)
theorem dX6_yearOrder_107 : decode cX6_yearOrder 107 = .ok (.ireturn, 1) := dk_172 (dk_at dksX6_yearOrder_4 16 rfl rfl)
abbrev cX6_omenTo : ByteArray := prog_15_method_49_code
def yX6_omenTo : MethodName := ⟨RX6, "omenTo", "(I)Z"⟩
def dkwX6_omenTo_0 : List UInt8 := [42, 3, 42, 180, 0, 7, 3, 46, 27, 182, 0, 200, 172]
abbrev dktX6_omenTo_0 : List UInt8 := dkwX6_omenTo_0 ++ []
theorem dksX6_omenTo_0 : cX6_omenTo.data.toList.drop 0 = dktX6_omenTo_0 := by decide +kernel
theorem dX6_omenTo_0 : decode cX6_omenTo 0 = .ok (.aload_n 0, 1) := dk_42 (dk_at dksX6_omenTo_0 0 rfl rfl)
theorem dX6_omenTo_1 : decode cX6_omenTo 1 = .ok (.iconst 0, 1) := dk_3 (dk_at dksX6_omenTo_0 1 rfl rfl)
theorem dX6_omenTo_2 : decode cX6_omenTo 2 = .ok (.aload_n 0, 1) := dk_42 (dk_at dksX6_omenTo_0 2 rfl rfl)
theorem dX6_omenTo_3 : decode cX6_omenTo 3 = .ok (.getfield 7, 3) := dk_180 0 7 (dk_at dksX6_omenTo_0 3 rfl rfl)
theorem dX6_omenTo_6 : decode cX6_omenTo 6 = .ok (.iconst 0, 1) := dk_3 (dk_at dksX6_omenTo_0 6 rfl rfl)
theorem dX6_omenTo_7 : decode cX6_omenTo 7 = .ok (.iaload, 1) := dk_46 (dk_at dksX6_omenTo_0 7 rfl rfl)
theorem dX6_omenTo_8 : decode cX6_omenTo 8 = .ok (.iload_n 1, 1) := dk_27 (dk_at dksX6_omenTo_0 8 rfl rfl)
theorem dX6_omenTo_9 : decode cX6_omenTo 9 = .ok (.invokevirtual 200, 3) := dk_182 0 200 (dk_at dksX6_omenTo_0 9 rfl rfl)
theorem dX6_omenTo_12 : decode cX6_omenTo 12 = .ok (.ireturn, 1) := dk_172 (dk_at dksX6_omenTo_0 12 rfl rfl)
abbrev cX6_personTo : ByteArray := prog_15_method_48_code
def yX6_personTo : MethodName := ⟨RX6, "personTo", "(I)Z"⟩
def dkwX6_personTo_0 : List UInt8 := [42, 16, 6, 42, 180, 0, 7, 4, 46, 27, 182, 0, 200, 172]
abbrev dktX6_personTo_0 : List UInt8 := dkwX6_personTo_0 ++ []
theorem dksX6_personTo_0 : cX6_personTo.data.toList.drop 0 = dktX6_personTo_0 := by decide +kernel
theorem dX6_personTo_0 : decode cX6_personTo 0 = .ok (.aload_n 0, 1) := dk_42 (dk_at dksX6_personTo_0 0 rfl rfl)
theorem dX6_personTo_1 : decode cX6_personTo 1 = .ok (.bipush 6, 2) := dk_16 6 (dk_at dksX6_personTo_0 1 rfl rfl)
theorem dX6_personTo_3 : decode cX6_personTo 3 = .ok (.aload_n 0, 1) := dk_42 (dk_at dksX6_personTo_0 3 rfl rfl)
theorem dX6_personTo_4 : decode cX6_personTo 4 = .ok (.getfield 7, 3) := dk_180 0 7 (dk_at dksX6_personTo_0 4 rfl rfl)
theorem dX6_personTo_7 : decode cX6_personTo 7 = .ok (.iconst 1, 1) := dk_4 (dk_at dksX6_personTo_0 7 rfl rfl)
theorem dX6_personTo_8 : decode cX6_personTo 8 = .ok (.iaload, 1) := dk_46 (dk_at dksX6_personTo_0 8 rfl rfl)
theorem dX6_personTo_9 : decode cX6_personTo 9 = .ok (.iload_n 1, 1) := dk_27 (dk_at dksX6_personTo_0 9 rfl rfl)
theorem dX6_personTo_10 : decode cX6_personTo 10 = .ok (.invokevirtual 200, 3) := dk_182 0 200 (dk_at dksX6_personTo_0 10 rfl rfl)
theorem dX6_personTo_13 : decode cX6_personTo 13 = .ok (.ireturn, 1) := dk_172 (dk_at dksX6_personTo_0 13 rfl rfl)
abbrev cX6_test : ByteArray := prog_15_method_50_code
def yX6_test : MethodName := ⟨RX6, "test", "(I)Z"⟩
def dkwX6_test_6 : List UInt8 := [182, 0, 188, 172]
abbrev dktX6_test_6 : List UInt8 := dkwX6_test_6 ++ []
def dkwX6_test_5 : List UInt8 := [180, 0, 7, 27, 8, 96, 42, 180, 0, 120, 79, 42, 182, 0, 154, 42, 27, 5, 96, 3, 16, 9]
abbrev dktX6_test_5 : List UInt8 := dkwX6_test_5 ++ dktX6_test_6
def dkwX6_test_4 : List UInt8 := [182, 0, 157, 154, 0, 18, 42, 16, 61, 182, 0, 157, 154, 0, 9, 42, 5, 182, 0, 160, 172, 42]
abbrev dktX6_test_4 : List UInt8 := dkwX6_test_4 ++ dktX6_test_5
def dkwX6_test_3 : List UInt8 := [3, 172, 28, 16, 9, 160, 0, 5, 4, 172, 42, 16, 60, 182, 0, 157, 154, 0, 27, 42, 16, 62]
abbrev dktX6_test_3 : List UInt8 := dkwX6_test_3 ++ dktX6_test_4
def dkwX6_test_2 : List UInt8 := [28, 16, 21, 160, 0, 11, 42, 27, 4, 96, 182, 0, 232, 172, 42, 27, 4, 96, 182, 0, 235, 154, 0, 5]
abbrev dktX6_test_2 : List UInt8 := dkwX6_test_2 ++ dktX6_test_3
def dkwX6_test_1 : List UInt8 := [159, 0, 9, 42, 5, 182, 0, 160, 172, 42, 180, 0, 7, 27, 17, 6, 164, 28, 96, 79, 42, 182, 0, 154]
abbrev dktX6_test_1 : List UInt8 := dkwX6_test_1 ++ dktX6_test_2
def dkwX6_test_0 : List UInt8 := [42, 18, 171, 182, 0, 163, 61, 28, 16, 9, 159, 0, 21, 28, 16, 8, 159, 0, 15, 28, 16, 21]
abbrev dktX6_test_0 : List UInt8 := dkwX6_test_0 ++ dktX6_test_1
theorem dksX6_test_0 : cX6_test.data.toList.drop 0 = dktX6_test_0 := by decide +kernel
theorem dksX6_test_1 : cX6_test.data.toList.drop 22 = dktX6_test_1 := dk_seg dksX6_test_0 22 rfl rfl
theorem dksX6_test_2 : cX6_test.data.toList.drop 46 = dktX6_test_2 := dk_seg dksX6_test_1 24 rfl rfl
theorem dksX6_test_3 : cX6_test.data.toList.drop 70 = dktX6_test_3 := dk_seg dksX6_test_2 24 rfl rfl
theorem dksX6_test_4 : cX6_test.data.toList.drop 92 = dktX6_test_4 := dk_seg dksX6_test_3 22 rfl rfl
theorem dksX6_test_5 : cX6_test.data.toList.drop 114 = dktX6_test_5 := dk_seg dksX6_test_4 22 rfl rfl
theorem dksX6_test_6 : cX6_test.data.toList.drop 136 = dktX6_test_6 := dk_seg dksX6_test_5 22 rfl rfl
theorem dX6_test_0 : decode cX6_test 0 = .ok (.aload_n 0, 1) := dk_42 (dk_at dksX6_test_0 0 rfl rfl)
theorem dX6_test_1 : decode cX6_test 1 = .ok (.ldc 171, 2) := dk_18 171 (dk_at dksX6_test_0 1 rfl rfl)
theorem dX6_test_3 : decode cX6_test 3 = .ok (.invokevirtual 163, 3) := dk_182 0 163 (dk_at dksX6_test_0 3 rfl rfl)
theorem dX6_test_6 : decode cX6_test 6 = .ok (.istore_n 2, 1) := dk_61 (dk_at dksX6_test_0 6 rfl rfl)
theorem dX6_test_7 : decode cX6_test 7 = .ok (.iload_n 2, 1) := dk_28 (dk_at dksX6_test_0 7 rfl rfl)
theorem dX6_test_8 : decode cX6_test 8 = .ok (.bipush 9, 2) := dk_16 9 (dk_at dksX6_test_0 8 rfl rfl)
theorem dX6_test_10 : decode cX6_test 10 = .ok (.if_icmp .eq 21, 3) := dk_159 0 21 (dk_at dksX6_test_0 10 rfl rfl)
theorem dX6_test_13 : decode cX6_test 13 = .ok (.iload_n 2, 1) := dk_28 (dk_at dksX6_test_0 13 rfl rfl)
theorem dX6_test_14 : decode cX6_test 14 = .ok (.bipush 8, 2) := dk_16 8 (dk_at dksX6_test_0 14 rfl rfl)
theorem dX6_test_16 : decode cX6_test 16 = .ok (.if_icmp .eq 15, 3) := dk_159 0 15 (dk_at dksX6_test_0 16 rfl rfl)
theorem dX6_test_19 : decode cX6_test 19 = .ok (.iload_n 2, 1) := dk_28 (dk_at dksX6_test_0 19 rfl rfl)
theorem dX6_test_20 : decode cX6_test 20 = .ok (.bipush 21, 2) := dk_16 21 (dk_at dksX6_test_0 20 rfl rfl)
theorem dX6_test_22 : decode cX6_test 22 = .ok (.if_icmp .eq 9, 3) := dk_159 0 9 (dk_at dksX6_test_1 0 rfl rfl)
theorem dX6_test_25 : decode cX6_test 25 = .ok (.aload_n 0, 1) := dk_42 (dk_at dksX6_test_1 3 rfl rfl)
theorem dX6_test_26 : decode cX6_test 26 = .ok (.iconst 2, 1) := dk_5 (dk_at dksX6_test_1 4 rfl rfl)
theorem dX6_test_27 : decode cX6_test 27 = .ok (.invokevirtual 160, 3) := dk_182 0 160 (dk_at dksX6_test_1 5 rfl rfl)
theorem dX6_test_30 : decode cX6_test 30 = .ok (.ireturn, 1) := dk_172 (dk_at dksX6_test_1 8 rfl rfl)
theorem dX6_test_31 : decode cX6_test 31 = .ok (.aload_n 0, 1) := dk_42 (dk_at dksX6_test_1 9 rfl rfl)
theorem dX6_test_32 : decode cX6_test 32 = .ok (.getfield 7, 3) := dk_180 0 7 (dk_at dksX6_test_1 10 rfl rfl)
theorem dX6_test_35 : decode cX6_test 35 = .ok (.iload_n 1, 1) := dk_27 (dk_at dksX6_test_1 13 rfl rfl)
theorem dX6_test_36 : decode cX6_test 36 = .ok (.sipush 1700, 3) := dk_17 6 164 (dk_at dksX6_test_1 14 rfl rfl)
theorem dX6_test_39 : decode cX6_test 39 = .ok (.iload_n 2, 1) := dk_28 (dk_at dksX6_test_1 17 rfl rfl)
theorem dX6_test_40 : decode cX6_test 40 = .ok (.iadd, 1) := dk_96 (dk_at dksX6_test_1 18 rfl rfl)
theorem dX6_test_41 : decode cX6_test 41 = .ok (.iastore, 1) := dk_79 (dk_at dksX6_test_1 19 rfl rfl)
theorem dX6_test_42 : decode cX6_test 42 = .ok (.aload_n 0, 1) := dk_42 (dk_at dksX6_test_1 20 rfl rfl)
theorem dX6_test_43 : decode cX6_test 43 = .ok (.invokevirtual 154, 3) := dk_182 0 154 (dk_at dksX6_test_1 21 rfl rfl)
theorem dX6_test_46 : decode cX6_test 46 = .ok (.iload_n 2, 1) := dk_28 (dk_at dksX6_test_2 0 rfl rfl)
theorem dX6_test_47 : decode cX6_test 47 = .ok (.bipush 21, 2) := dk_16 21 (dk_at dksX6_test_2 1 rfl rfl)
theorem dX6_test_49 : decode cX6_test 49 = .ok (.if_icmp .ne 11, 3) := dk_160 0 11 (dk_at dksX6_test_2 3 rfl rfl)
theorem dX6_test_52 : decode cX6_test 52 = .ok (.aload_n 0, 1) := dk_42 (dk_at dksX6_test_2 6 rfl rfl)
theorem dX6_test_53 : decode cX6_test 53 = .ok (.iload_n 1, 1) := dk_27 (dk_at dksX6_test_2 7 rfl rfl)
theorem dX6_test_54 : decode cX6_test 54 = .ok (.iconst 1, 1) := dk_4 (dk_at dksX6_test_2 8 rfl rfl)
theorem dX6_test_55 : decode cX6_test 55 = .ok (.iadd, 1) := dk_96 (dk_at dksX6_test_2 9 rfl rfl)
theorem dX6_test_56 : decode cX6_test 56 = .ok (.invokevirtual 232, 3) := dk_182 0 232 (dk_at dksX6_test_2 10 rfl rfl)
theorem dX6_test_59 : decode cX6_test 59 = .ok (.ireturn, 1) := dk_172 (dk_at dksX6_test_2 13 rfl rfl)
theorem dX6_test_60 : decode cX6_test 60 = .ok (.aload_n 0, 1) := dk_42 (dk_at dksX6_test_2 14 rfl rfl)
theorem dX6_test_61 : decode cX6_test 61 = .ok (.iload_n 1, 1) := dk_27 (dk_at dksX6_test_2 15 rfl rfl)
theorem dX6_test_62 : decode cX6_test 62 = .ok (.iconst 1, 1) := dk_4 (dk_at dksX6_test_2 16 rfl rfl)
theorem dX6_test_63 : decode cX6_test 63 = .ok (.iadd, 1) := dk_96 (dk_at dksX6_test_2 17 rfl rfl)
theorem dX6_test_64 : decode cX6_test 64 = .ok (.invokevirtual 235, 3) := dk_182 0 235 (dk_at dksX6_test_2 18 rfl rfl)
theorem dX6_test_67 : decode cX6_test 67 = .ok (.ifCond .ne 5, 3) := dk_154 0 5 (dk_at dksX6_test_2 21 rfl rfl)
theorem dX6_test_70 : decode cX6_test 70 = .ok (.iconst 0, 1) := dk_3 (dk_at dksX6_test_3 0 rfl rfl)
theorem dX6_test_71 : decode cX6_test 71 = .ok (.ireturn, 1) := dk_172 (dk_at dksX6_test_3 1 rfl rfl)
theorem dX6_test_72 : decode cX6_test 72 = .ok (.iload_n 2, 1) := dk_28 (dk_at dksX6_test_3 2 rfl rfl)
theorem dX6_test_73 : decode cX6_test 73 = .ok (.bipush 9, 2) := dk_16 9 (dk_at dksX6_test_3 3 rfl rfl)
theorem dX6_test_75 : decode cX6_test 75 = .ok (.if_icmp .ne 5, 3) := dk_160 0 5 (dk_at dksX6_test_3 5 rfl rfl)
theorem dX6_test_78 : decode cX6_test 78 = .ok (.iconst 1, 1) := dk_4 (dk_at dksX6_test_3 8 rfl rfl)
theorem dX6_test_79 : decode cX6_test 79 = .ok (.ireturn, 1) := dk_172 (dk_at dksX6_test_3 9 rfl rfl)
theorem dX6_test_80 : decode cX6_test 80 = .ok (.aload_n 0, 1) := dk_42 (dk_at dksX6_test_3 10 rfl rfl)
theorem dX6_test_81 : decode cX6_test 81 = .ok (.bipush 60, 2) := dk_16 60 (dk_at dksX6_test_3 11 rfl rfl)
theorem dX6_test_83 : decode cX6_test 83 = .ok (.invokevirtual 157, 3) := dk_182 0 157 (dk_at dksX6_test_3 13 rfl rfl)
theorem dX6_test_86 : decode cX6_test 86 = .ok (.ifCond .ne 27, 3) := dk_154 0 27 (dk_at dksX6_test_3 16 rfl rfl)
theorem dX6_test_89 : decode cX6_test 89 = .ok (.aload_n 0, 1) := dk_42 (dk_at dksX6_test_3 19 rfl rfl)
theorem dX6_test_90 : decode cX6_test 90 = .ok (.bipush 62, 2) := dk_16 62 (dk_at dksX6_test_3 20 rfl rfl)
theorem dX6_test_92 : decode cX6_test 92 = .ok (.invokevirtual 157, 3) := dk_182 0 157 (dk_at dksX6_test_4 0 rfl rfl)
theorem dX6_test_95 : decode cX6_test 95 = .ok (.ifCond .ne 18, 3) := dk_154 0 18 (dk_at dksX6_test_4 3 rfl rfl)
theorem dX6_test_98 : decode cX6_test 98 = .ok (.aload_n 0, 1) := dk_42 (dk_at dksX6_test_4 6 rfl rfl)
theorem dX6_test_99 : decode cX6_test 99 = .ok (.bipush 61, 2) := dk_16 61 (dk_at dksX6_test_4 7 rfl rfl)
theorem dX6_test_101 : decode cX6_test 101 = .ok (.invokevirtual 157, 3) := dk_182 0 157 (dk_at dksX6_test_4 9 rfl rfl)
theorem dX6_test_104 : decode cX6_test 104 = .ok (.ifCond .ne 9, 3) := dk_154 0 9 (dk_at dksX6_test_4 12 rfl rfl)
theorem dX6_test_107 : decode cX6_test 107 = .ok (.aload_n 0, 1) := dk_42 (dk_at dksX6_test_4 15 rfl rfl)
theorem dX6_test_108 : decode cX6_test 108 = .ok (.iconst 2, 1) := dk_5 (dk_at dksX6_test_4 16 rfl rfl)
theorem dX6_test_109 : decode cX6_test 109 = .ok (.invokevirtual 160, 3) := dk_182 0 160 (dk_at dksX6_test_4 17 rfl rfl)
theorem dX6_test_112 : decode cX6_test 112 = .ok (.ireturn, 1) := dk_172 (dk_at dksX6_test_4 20 rfl rfl)
theorem dX6_test_113 : decode cX6_test 113 = .ok (.aload_n 0, 1) := dk_42 (dk_at dksX6_test_4 21 rfl rfl)
theorem dX6_test_114 : decode cX6_test 114 = .ok (.getfield 7, 3) := dk_180 0 7 (dk_at dksX6_test_5 0 rfl rfl)
theorem dX6_test_117 : decode cX6_test 117 = .ok (.iload_n 1, 1) := dk_27 (dk_at dksX6_test_5 3 rfl rfl)
theorem dX6_test_118 : decode cX6_test 118 = .ok (.iconst 5, 1) := dk_8 (dk_at dksX6_test_5 4 rfl rfl)
theorem dX6_test_119 : decode cX6_test 119 = .ok (.iadd, 1) := dk_96 (dk_at dksX6_test_5 5 rfl rfl)
theorem dX6_test_120 : decode cX6_test 120 = .ok (.aload_n 0, 1) := dk_42 (dk_at dksX6_test_5 6 rfl rfl)
theorem dX6_test_121 : decode cX6_test 121 = .ok (.getfield 120, 3) := dk_180 0 120 (dk_at dksX6_test_5 7 rfl rfl)
theorem dX6_test_124 : decode cX6_test 124 = .ok (.iastore, 1) := dk_79 (dk_at dksX6_test_5 10 rfl rfl)
theorem dX6_test_125 : decode cX6_test 125 = .ok (.aload_n 0, 1) := dk_42 (dk_at dksX6_test_5 11 rfl rfl)
theorem dX6_test_126 : decode cX6_test 126 = .ok (.invokevirtual 154, 3) := dk_182 0 154 (dk_at dksX6_test_5 12 rfl rfl)
theorem dX6_test_129 : decode cX6_test 129 = .ok (.aload_n 0, 1) := dk_42 (dk_at dksX6_test_5 15 rfl rfl)
theorem dX6_test_130 : decode cX6_test 130 = .ok (.iload_n 1, 1) := dk_27 (dk_at dksX6_test_5 16 rfl rfl)
theorem dX6_test_131 : decode cX6_test 131 = .ok (.iconst 2, 1) := dk_5 (dk_at dksX6_test_5 17 rfl rfl)
theorem dX6_test_132 : decode cX6_test 132 = .ok (.iadd, 1) := dk_96 (dk_at dksX6_test_5 18 rfl rfl)
theorem dX6_test_133 : decode cX6_test 133 = .ok (.iconst 0, 1) := dk_3 (dk_at dksX6_test_5 19 rfl rfl)
theorem dX6_test_134 : decode cX6_test 134 = .ok (.bipush 9, 2) := dk_16 9 (dk_at dksX6_test_5 20 rfl rfl)
theorem dX6_test_136 : decode cX6_test 136 = .ok (.invokevirtual 188, 3) := dk_182 0 188 (dk_at dksX6_test_6 0 rfl rfl)
theorem dX6_test_139 : decode cX6_test 139 = .ok (.ireturn, 1) := dk_172 (dk_at dksX6_test_6 3 rfl rfl)
abbrev cX6_told : ByteArray := prog_15_method_70_code
def yX6_told : MethodName := ⟨RX6, "told", "(I)I"⟩
def dkwX6_told_3 : List UInt8 := [182, 1, 25, 182, 0, 82, 172, 42, 42, 180, 0, 7, 27, 46, 182, 0, 82, 172]
abbrev dktX6_told_3 : List UInt8 := dkwX6_told_3 ++ []
def dkwX6_told_2 : List UInt8 := [42, 42, 182, 1, 22, 182, 0, 82, 172, 42, 42, 180, 0, 7, 16, 6, 46, 182, 0, 82, 172, 42, 42]
abbrev dktX6_told_2 : List UInt8 := dkwX6_told_2 ++ dktX6_told_3
def dkwX6_told_1 : List UInt8 := [170, 0, 0, 0, 0, 0, 57, 0, 0, 0, 6, 0, 0, 0, 8, 0, 0, 0, 27, 0, 0, 0, 36, 0, 0, 0, 48]
abbrev dktX6_told_1 : List UInt8 := dkwX6_told_1 ++ dktX6_told_2
def dkwX6_told_0 : List UInt8 := [27, 155, 0, 9, 27, 16, 8, 164, 0, 9, 42, 4, 182, 0, 78, 172, 27]
abbrev dktX6_told_0 : List UInt8 := dkwX6_told_0 ++ dktX6_told_1
theorem dksX6_told_0 : cX6_told.data.toList.drop 0 = dktX6_told_0 := by decide +kernel
theorem dksX6_told_1 : cX6_told.data.toList.drop 17 = dktX6_told_1 := dk_seg dksX6_told_0 17 rfl rfl
theorem dksX6_told_2 : cX6_told.data.toList.drop 44 = dktX6_told_2 := dk_seg dksX6_told_1 27 rfl rfl
theorem dksX6_told_3 : cX6_told.data.toList.drop 67 = dktX6_told_3 := dk_seg dksX6_told_2 23 rfl rfl
theorem dX6_told_0 : decode cX6_told 0 = .ok (.iload_n 1, 1) := dk_27 (dk_at dksX6_told_0 0 rfl rfl)
theorem dX6_told_1 : decode cX6_told 1 = .ok (.ifCond .lt 9, 3) := dk_155 0 9 (dk_at dksX6_told_0 1 rfl rfl)
theorem dX6_told_4 : decode cX6_told 4 = .ok (.iload_n 1, 1) := dk_27 (dk_at dksX6_told_0 4 rfl rfl)
theorem dX6_told_5 : decode cX6_told 5 = .ok (.bipush 8, 2) := dk_16 8 (dk_at dksX6_told_0 5 rfl rfl)
theorem dX6_told_7 : decode cX6_told 7 = .ok (.if_icmp .le 9, 3) := dk_164 0 9 (dk_at dksX6_told_0 7 rfl rfl)
theorem dX6_told_10 : decode cX6_told 10 = .ok (.aload_n 0, 1) := dk_42 (dk_at dksX6_told_0 10 rfl rfl)
theorem dX6_told_11 : decode cX6_told 11 = .ok (.iconst 1, 1) := dk_4 (dk_at dksX6_told_0 11 rfl rfl)
theorem dX6_told_12 : decode cX6_told 12 = .ok (.invokevirtual 78, 3) := dk_182 0 78 (dk_at dksX6_told_0 12 rfl rfl)
theorem dX6_told_15 : decode cX6_told 15 = .ok (.ireturn, 1) := dk_172 (dk_at dksX6_told_0 15 rfl rfl)
theorem dX6_told_16 : decode cX6_told 16 = .ok (.iload_n 1, 1) := dk_27 (dk_at dksX6_told_0 16 rfl rfl)
theorem dX6_told_17 : decode cX6_told 17 = .ok (.tableswitch 57 6 8 #[27, 36, 48], 27) := by decide +kernel
theorem dX6_told_44 : decode cX6_told 44 = .ok (.aload_n 0, 1) := dk_42 (dk_at dksX6_told_2 0 rfl rfl)
theorem dX6_told_45 : decode cX6_told 45 = .ok (.aload_n 0, 1) := dk_42 (dk_at dksX6_told_2 1 rfl rfl)
theorem dX6_told_46 : decode cX6_told 46 = .ok (.invokevirtual 278, 3) := dk_182 1 22 (dk_at dksX6_told_2 2 rfl rfl)
theorem dX6_told_49 : decode cX6_told 49 = .ok (.invokevirtual 82, 3) := dk_182 0 82 (dk_at dksX6_told_2 5 rfl rfl)
theorem dX6_told_52 : decode cX6_told 52 = .ok (.ireturn, 1) := dk_172 (dk_at dksX6_told_2 8 rfl rfl)
theorem dX6_told_53 : decode cX6_told 53 = .ok (.aload_n 0, 1) := dk_42 (dk_at dksX6_told_2 9 rfl rfl)
theorem dX6_told_54 : decode cX6_told 54 = .ok (.aload_n 0, 1) := dk_42 (dk_at dksX6_told_2 10 rfl rfl)
theorem dX6_told_55 : decode cX6_told 55 = .ok (.getfield 7, 3) := dk_180 0 7 (dk_at dksX6_told_2 11 rfl rfl)
theorem dX6_told_58 : decode cX6_told 58 = .ok (.bipush 6, 2) := dk_16 6 (dk_at dksX6_told_2 14 rfl rfl)
theorem dX6_told_60 : decode cX6_told 60 = .ok (.iaload, 1) := dk_46 (dk_at dksX6_told_2 16 rfl rfl)
theorem dX6_told_61 : decode cX6_told 61 = .ok (.invokevirtual 82, 3) := dk_182 0 82 (dk_at dksX6_told_2 17 rfl rfl)
theorem dX6_told_64 : decode cX6_told 64 = .ok (.ireturn, 1) := dk_172 (dk_at dksX6_told_2 20 rfl rfl)
theorem dX6_told_65 : decode cX6_told 65 = .ok (.aload_n 0, 1) := dk_42 (dk_at dksX6_told_2 21 rfl rfl)
theorem dX6_told_66 : decode cX6_told 66 = .ok (.aload_n 0, 1) := dk_42 (dk_at dksX6_told_2 22 rfl rfl)
theorem dX6_told_67 : decode cX6_told 67 = .ok (.invokevirtual 281, 3) := dk_182 1 25 (dk_at dksX6_told_3 0 rfl rfl)
theorem dX6_told_70 : decode cX6_told 70 = .ok (.invokevirtual 82, 3) := dk_182 0 82 (dk_at dksX6_told_3 3 rfl rfl)
theorem dX6_told_73 : decode cX6_told 73 = .ok (.ireturn, 1) := dk_172 (dk_at dksX6_told_3 6 rfl rfl)
theorem dX6_told_74 : decode cX6_told 74 = .ok (.aload_n 0, 1) := dk_42 (dk_at dksX6_told_3 7 rfl rfl)
theorem dX6_told_75 : decode cX6_told 75 = .ok (.aload_n 0, 1) := dk_42 (dk_at dksX6_told_3 8 rfl rfl)
theorem dX6_told_76 : decode cX6_told 76 = .ok (.getfield 7, 3) := dk_180 0 7 (dk_at dksX6_told_3 9 rfl rfl)
theorem dX6_told_79 : decode cX6_told 79 = .ok (.iload_n 1, 1) := dk_27 (dk_at dksX6_told_3 12 rfl rfl)
theorem dX6_told_80 : decode cX6_told 80 = .ok (.iaload, 1) := dk_46 (dk_at dksX6_told_3 13 rfl rfl)
theorem dX6_told_81 : decode cX6_told 81 = .ok (.invokevirtual 82, 3) := dk_182 0 82 (dk_at dksX6_told_3 14 rfl rfl)
theorem dX6_told_84 : decode cX6_told 84 = .ok (.ireturn, 1) := dk_172 (dk_at dksX6_told_3 17 rfl rfl)
abbrev cX6_aboard : ByteArray := prog_15_method_63_code
def yX6_aboard : MethodName := ⟨RX6, "aboard", "()I"⟩
def dkwX6_aboard_0 : List UInt8 := [42, 182, 1, 4, 42, 180, 0, 7, 16, 7, 46, 2, 130, 126, 172]
abbrev dktX6_aboard_0 : List UInt8 := dkwX6_aboard_0 ++ []
theorem dksX6_aboard_0 : cX6_aboard.data.toList.drop 0 = dktX6_aboard_0 := by decide +kernel
theorem dX6_aboard_0 : decode cX6_aboard 0 = .ok (.aload_n 0, 1) := dk_42 (dk_at dksX6_aboard_0 0 rfl rfl)
theorem dX6_aboard_1 : decode cX6_aboard 1 = .ok (.invokevirtual 260, 3) := dk_182 1 4 (dk_at dksX6_aboard_0 1 rfl rfl)
theorem dX6_aboard_4 : decode cX6_aboard 4 = .ok (.aload_n 0, 1) := dk_42 (dk_at dksX6_aboard_0 4 rfl rfl)
theorem dX6_aboard_5 : decode cX6_aboard 5 = .ok (.getfield 7, 3) := dk_180 0 7 (dk_at dksX6_aboard_0 5 rfl rfl)
theorem dX6_aboard_8 : decode cX6_aboard 8 = .ok (.bipush 7, 2) := dk_16 7 (dk_at dksX6_aboard_0 8 rfl rfl)
theorem dX6_aboard_10 : decode cX6_aboard 10 = .ok (.iaload, 1) := dk_46 (dk_at dksX6_aboard_0 10 rfl rfl)
theorem dX6_aboard_11 : decode cX6_aboard 11 = .ok (.iconst (-1), 1) := dk_2 (dk_at dksX6_aboard_0 11 rfl rfl)
theorem dX6_aboard_12 : decode cX6_aboard 12 = .ok (.ixor, 1) := dk_130 (dk_at dksX6_aboard_0 12 rfl rfl)
theorem dX6_aboard_13 : decode cX6_aboard 13 = .ok (.iand, 1) := dk_126 (dk_at dksX6_aboard_0 13 rfl rfl)
theorem dX6_aboard_14 : decode cX6_aboard 14 = .ok (.ireturn, 1) := dk_172 (dk_at dksX6_aboard_0 14 rfl rfl)
abbrev cX6_allPeople : ByteArray := prog_15_method_57_code
def yX6_allPeople : MethodName := ⟨RX6, "allPeople", "()I"⟩
def dkwX6_allPeople_0 : List UInt8 := [4, 42, 180, 0, 7, 4, 46, 120, 4, 100, 172]
abbrev dktX6_allPeople_0 : List UInt8 := dkwX6_allPeople_0 ++ []
theorem dksX6_allPeople_0 : cX6_allPeople.data.toList.drop 0 = dktX6_allPeople_0 := by decide +kernel
theorem dX6_allPeople_0 : decode cX6_allPeople 0 = .ok (.iconst 1, 1) := dk_4 (dk_at dksX6_allPeople_0 0 rfl rfl)
theorem dX6_allPeople_1 : decode cX6_allPeople 1 = .ok (.aload_n 0, 1) := dk_42 (dk_at dksX6_allPeople_0 1 rfl rfl)
theorem dX6_allPeople_2 : decode cX6_allPeople 2 = .ok (.getfield 7, 3) := dk_180 0 7 (dk_at dksX6_allPeople_0 2 rfl rfl)
theorem dX6_allPeople_5 : decode cX6_allPeople 5 = .ok (.iconst 1, 1) := dk_4 (dk_at dksX6_allPeople_0 5 rfl rfl)
theorem dX6_allPeople_6 : decode cX6_allPeople 6 = .ok (.iaload, 1) := dk_46 (dk_at dksX6_allPeople_0 6 rfl rfl)
theorem dX6_allPeople_7 : decode cX6_allPeople 7 = .ok (.ishl, 1) := dk_120 (dk_at dksX6_allPeople_0 7 rfl rfl)
theorem dX6_allPeople_8 : decode cX6_allPeople 8 = .ok (.iconst 1, 1) := dk_4 (dk_at dksX6_allPeople_0 8 rfl rfl)
theorem dX6_allPeople_9 : decode cX6_allPeople 9 = .ok (.isub, 1) := dk_100 (dk_at dksX6_allPeople_0 9 rfl rfl)
theorem dX6_allPeople_10 : decode cX6_allPeople 10 = .ok (.ireturn, 1) := dk_172 (dk_at dksX6_allPeople_0 10 rfl rfl)
abbrev cX6_allSat : ByteArray := prog_15_method_69_code
def yX6_allSat : MethodName := ⟨RX6, "allSat", "()I"⟩
def dkwX6_allSat_1 : List UInt8 := [132, 2, 1, 167, 255, 234, 27, 172]
abbrev dktX6_allSat_1 : List UInt8 := dkwX6_allSat_1 ++ []
def dkwX6_allSat_0 : List UInt8 := [3, 60, 3, 61, 28, 42, 180, 0, 7, 4, 46, 162, 0, 18, 27, 42, 28, 4, 182, 1, 10, 96, 60]
abbrev dktX6_allSat_0 : List UInt8 := dkwX6_allSat_0 ++ dktX6_allSat_1
theorem dksX6_allSat_0 : cX6_allSat.data.toList.drop 0 = dktX6_allSat_0 := by decide +kernel
theorem dksX6_allSat_1 : cX6_allSat.data.toList.drop 23 = dktX6_allSat_1 := dk_seg dksX6_allSat_0 23 rfl rfl
theorem dX6_allSat_0 : decode cX6_allSat 0 = .ok (.iconst 0, 1) := dk_3 (dk_at dksX6_allSat_0 0 rfl rfl)
theorem dX6_allSat_1 : decode cX6_allSat 1 = .ok (.istore_n 1, 1) := dk_60 (dk_at dksX6_allSat_0 1 rfl rfl)
theorem dX6_allSat_2 : decode cX6_allSat 2 = .ok (.iconst 0, 1) := dk_3 (dk_at dksX6_allSat_0 2 rfl rfl)
theorem dX6_allSat_3 : decode cX6_allSat 3 = .ok (.istore_n 2, 1) := dk_61 (dk_at dksX6_allSat_0 3 rfl rfl)
theorem dX6_allSat_4 : decode cX6_allSat 4 = .ok (.iload_n 2, 1) := dk_28 (dk_at dksX6_allSat_0 4 rfl rfl)
theorem dX6_allSat_5 : decode cX6_allSat 5 = .ok (.aload_n 0, 1) := dk_42 (dk_at dksX6_allSat_0 5 rfl rfl)
theorem dX6_allSat_6 : decode cX6_allSat 6 = .ok (.getfield 7, 3) := dk_180 0 7 (dk_at dksX6_allSat_0 6 rfl rfl)
theorem dX6_allSat_9 : decode cX6_allSat 9 = .ok (.iconst 1, 1) := dk_4 (dk_at dksX6_allSat_0 9 rfl rfl)
theorem dX6_allSat_10 : decode cX6_allSat 10 = .ok (.iaload, 1) := dk_46 (dk_at dksX6_allSat_0 10 rfl rfl)
theorem dX6_allSat_11 : decode cX6_allSat 11 = .ok (.if_icmp .ge 18, 3) := dk_162 0 18 (dk_at dksX6_allSat_0 11 rfl rfl)
theorem dX6_allSat_14 : decode cX6_allSat 14 = .ok (.iload_n 1, 1) := dk_27 (dk_at dksX6_allSat_0 14 rfl rfl)
theorem dX6_allSat_15 : decode cX6_allSat 15 = .ok (.aload_n 0, 1) := dk_42 (dk_at dksX6_allSat_0 15 rfl rfl)
theorem dX6_allSat_16 : decode cX6_allSat 16 = .ok (.iload_n 2, 1) := dk_28 (dk_at dksX6_allSat_0 16 rfl rfl)
theorem dX6_allSat_17 : decode cX6_allSat 17 = .ok (.iconst 1, 1) := dk_4 (dk_at dksX6_allSat_0 17 rfl rfl)
theorem dX6_allSat_18 : decode cX6_allSat 18 = .ok (.invokevirtual 266, 3) := dk_182 1 10 (dk_at dksX6_allSat_0 18 rfl rfl)
theorem dX6_allSat_21 : decode cX6_allSat 21 = .ok (.iadd, 1) := dk_96 (dk_at dksX6_allSat_0 21 rfl rfl)
theorem dX6_allSat_22 : decode cX6_allSat 22 = .ok (.istore_n 1, 1) := dk_60 (dk_at dksX6_allSat_0 22 rfl rfl)
theorem dX6_allSat_23 : decode cX6_allSat 23 = .ok (.iinc 2 1, 3) := dk_132 2 1 (dk_at dksX6_allSat_1 0 rfl rfl)
theorem dX6_allSat_26 : decode cX6_allSat 26 = .ok (.goto (-22), 3) := dk_167 255 234 (dk_at dksX6_allSat_1 3 rfl rfl)
theorem dX6_allSat_29 : decode cX6_allSat 29 = .ok (.iload_n 1, 1) := dk_27 (dk_at dksX6_allSat_1 6 rfl rfl)
theorem dX6_allSat_30 : decode cX6_allSat 30 = .ok (.ireturn, 1) := dk_172 (dk_at dksX6_allSat_1 7 rfl rfl)
abbrev cX6_personOf : ByteArray := prog_15_method_62_code
def yX6_personOf : MethodName := ⟨RX6, "personOf", "(II)I"⟩
def dkwX6_personOf_0 : List UInt8 := [42, 180, 0, 7, 27, 184, 0, 194, 28, 96, 46, 172]
abbrev dktX6_personOf_0 : List UInt8 := dkwX6_personOf_0 ++ []
theorem dksX6_personOf_0 : cX6_personOf.data.toList.drop 0 = dktX6_personOf_0 := by decide +kernel
theorem dX6_personOf_0 : decode cX6_personOf 0 = .ok (.aload_n 0, 1) := dk_42 (dk_at dksX6_personOf_0 0 rfl rfl)
theorem dX6_personOf_1 : decode cX6_personOf 1 = .ok (.getfield 7, 3) := dk_180 0 7 (dk_at dksX6_personOf_0 1 rfl rfl)
theorem dX6_personOf_4 : decode cX6_personOf 4 = .ok (.iload_n 1, 1) := dk_27 (dk_at dksX6_personOf_0 4 rfl rfl)
theorem dX6_personOf_5 : decode cX6_personOf 5 = .ok (.invokestatic 194, 3) := dk_184 0 194 (dk_at dksX6_personOf_0 5 rfl rfl)
theorem dX6_personOf_8 : decode cX6_personOf 8 = .ok (.iload_n 2, 1) := dk_28 (dk_at dksX6_personOf_0 8 rfl rfl)
theorem dX6_personOf_9 : decode cX6_personOf 9 = .ok (.iadd, 1) := dk_96 (dk_at dksX6_personOf_0 9 rfl rfl)
theorem dX6_personOf_10 : decode cX6_personOf 10 = .ok (.iaload, 1) := dk_46 (dk_at dksX6_personOf_0 10 rfl rfl)
theorem dX6_personOf_11 : decode cX6_personOf 11 = .ok (.ireturn, 1) := dk_172 (dk_at dksX6_personOf_0 11 rfl rfl)
abbrev cX6_omen : ByteArray := prog_15_method_72_code
def yX6_omen : MethodName := ⟨RX6, "omen", "(II)I"⟩
def dkwX6_omen_2 : List UInt8 := [27, 182, 1, 31, 167, 0, 14, 42, 180, 0, 7, 16, 6, 46, 27, 122, 4, 126, 182, 0, 82, 172]
abbrev dktX6_omen_2 : List UInt8 := dkwX6_omen_2 ++ []
def dkwX6_omen_1 : List UInt8 := [154, 0, 17, 42, 42, 180, 0, 7, 16, 10, 27, 96, 46, 182, 0, 82, 172, 42, 28, 5, 160, 0, 11, 42]
abbrev dktX6_omen_1 : List UInt8 := dkwX6_omen_1 ++ dktX6_omen_2
def dkwX6_omen_0 : List UInt8 := [42, 27, 182, 1, 28, 153, 0, 12, 28, 155, 0, 8, 28, 5, 164, 0, 9, 42, 4, 182, 0, 78, 172, 28]
abbrev dktX6_omen_0 : List UInt8 := dkwX6_omen_0 ++ dktX6_omen_1
theorem dksX6_omen_0 : cX6_omen.data.toList.drop 0 = dktX6_omen_0 := by decide +kernel
theorem dksX6_omen_1 : cX6_omen.data.toList.drop 24 = dktX6_omen_1 := dk_seg dksX6_omen_0 24 rfl rfl
theorem dksX6_omen_2 : cX6_omen.data.toList.drop 48 = dktX6_omen_2 := dk_seg dksX6_omen_1 24 rfl rfl
theorem dX6_omen_0 : decode cX6_omen 0 = .ok (.aload_n 0, 1) := dk_42 (dk_at dksX6_omen_0 0 rfl rfl)
theorem dX6_omen_1 : decode cX6_omen 1 = .ok (.iload_n 1, 1) := dk_27 (dk_at dksX6_omen_0 1 rfl rfl)
theorem dX6_omen_2 : decode cX6_omen 2 = .ok (.invokevirtual 284, 3) := dk_182 1 28 (dk_at dksX6_omen_0 2 rfl rfl)
theorem dX6_omen_5 : decode cX6_omen 5 = .ok (.ifCond .eq 12, 3) := dk_153 0 12 (dk_at dksX6_omen_0 5 rfl rfl)
theorem dX6_omen_8 : decode cX6_omen 8 = .ok (.iload_n 2, 1) := dk_28 (dk_at dksX6_omen_0 8 rfl rfl)
theorem dX6_omen_9 : decode cX6_omen 9 = .ok (.ifCond .lt 8, 3) := dk_155 0 8 (dk_at dksX6_omen_0 9 rfl rfl)
theorem dX6_omen_12 : decode cX6_omen 12 = .ok (.iload_n 2, 1) := dk_28 (dk_at dksX6_omen_0 12 rfl rfl)
theorem dX6_omen_13 : decode cX6_omen 13 = .ok (.iconst 2, 1) := dk_5 (dk_at dksX6_omen_0 13 rfl rfl)
theorem dX6_omen_14 : decode cX6_omen 14 = .ok (.if_icmp .le 9, 3) := dk_164 0 9 (dk_at dksX6_omen_0 14 rfl rfl)
theorem dX6_omen_17 : decode cX6_omen 17 = .ok (.aload_n 0, 1) := dk_42 (dk_at dksX6_omen_0 17 rfl rfl)
theorem dX6_omen_18 : decode cX6_omen 18 = .ok (.iconst 1, 1) := dk_4 (dk_at dksX6_omen_0 18 rfl rfl)
theorem dX6_omen_19 : decode cX6_omen 19 = .ok (.invokevirtual 78, 3) := dk_182 0 78 (dk_at dksX6_omen_0 19 rfl rfl)
theorem dX6_omen_22 : decode cX6_omen 22 = .ok (.ireturn, 1) := dk_172 (dk_at dksX6_omen_0 22 rfl rfl)
theorem dX6_omen_23 : decode cX6_omen 23 = .ok (.iload_n 2, 1) := dk_28 (dk_at dksX6_omen_0 23 rfl rfl)
theorem dX6_omen_24 : decode cX6_omen 24 = .ok (.ifCond .ne 17, 3) := dk_154 0 17 (dk_at dksX6_omen_1 0 rfl rfl)
theorem dX6_omen_27 : decode cX6_omen 27 = .ok (.aload_n 0, 1) := dk_42 (dk_at dksX6_omen_1 3 rfl rfl)
theorem dX6_omen_28 : decode cX6_omen 28 = .ok (.aload_n 0, 1) := dk_42 (dk_at dksX6_omen_1 4 rfl rfl)
theorem dX6_omen_29 : decode cX6_omen 29 = .ok (.getfield 7, 3) := dk_180 0 7 (dk_at dksX6_omen_1 5 rfl rfl)
theorem dX6_omen_32 : decode cX6_omen 32 = .ok (.bipush 10, 2) := dk_16 10 (dk_at dksX6_omen_1 8 rfl rfl)
theorem dX6_omen_34 : decode cX6_omen 34 = .ok (.iload_n 1, 1) := dk_27 (dk_at dksX6_omen_1 10 rfl rfl)
theorem dX6_omen_35 : decode cX6_omen 35 = .ok (.iadd, 1) := dk_96 (dk_at dksX6_omen_1 11 rfl rfl)
theorem dX6_omen_36 : decode cX6_omen 36 = .ok (.iaload, 1) := dk_46 (dk_at dksX6_omen_1 12 rfl rfl)
theorem dX6_omen_37 : decode cX6_omen 37 = .ok (.invokevirtual 82, 3) := dk_182 0 82 (dk_at dksX6_omen_1 13 rfl rfl)
theorem dX6_omen_40 : decode cX6_omen 40 = .ok (.ireturn, 1) := dk_172 (dk_at dksX6_omen_1 16 rfl rfl)
theorem dX6_omen_41 : decode cX6_omen 41 = .ok (.aload_n 0, 1) := dk_42 (dk_at dksX6_omen_1 17 rfl rfl)
theorem dX6_omen_42 : decode cX6_omen 42 = .ok (.iload_n 2, 1) := dk_28 (dk_at dksX6_omen_1 18 rfl rfl)
theorem dX6_omen_43 : decode cX6_omen 43 = .ok (.iconst 2, 1) := dk_5 (dk_at dksX6_omen_1 19 rfl rfl)
theorem dX6_omen_44 : decode cX6_omen 44 = .ok (.if_icmp .ne 11, 3) := dk_160 0 11 (dk_at dksX6_omen_1 20 rfl rfl)
theorem dX6_omen_47 : decode cX6_omen 47 = .ok (.aload_n 0, 1) := dk_42 (dk_at dksX6_omen_1 23 rfl rfl)
theorem dX6_omen_48 : decode cX6_omen 48 = .ok (.iload_n 1, 1) := dk_27 (dk_at dksX6_omen_2 0 rfl rfl)
theorem dX6_omen_49 : decode cX6_omen 49 = .ok (.invokevirtual 287, 3) := dk_182 1 31 (dk_at dksX6_omen_2 1 rfl rfl)
theorem dX6_omen_52 : decode cX6_omen 52 = .ok (.goto 14, 3) := dk_167 0 14 (dk_at dksX6_omen_2 4 rfl rfl)
theorem dX6_omen_55 : decode cX6_omen 55 = .ok (.aload_n 0, 1) := dk_42 (dk_at dksX6_omen_2 7 rfl rfl)
theorem dX6_omen_56 : decode cX6_omen 56 = .ok (.getfield 7, 3) := dk_180 0 7 (dk_at dksX6_omen_2 8 rfl rfl)
theorem dX6_omen_59 : decode cX6_omen 59 = .ok (.bipush 6, 2) := dk_16 6 (dk_at dksX6_omen_2 11 rfl rfl)
theorem dX6_omen_61 : decode cX6_omen 61 = .ok (.iaload, 1) := dk_46 (dk_at dksX6_omen_2 13 rfl rfl)
theorem dX6_omen_62 : decode cX6_omen 62 = .ok (.iload_n 1, 1) := dk_27 (dk_at dksX6_omen_2 14 rfl rfl)
theorem dX6_omen_63 : decode cX6_omen 63 = .ok (.ishr, 1) := dk_122 (dk_at dksX6_omen_2 15 rfl rfl)
theorem dX6_omen_64 : decode cX6_omen 64 = .ok (.iconst 1, 1) := dk_4 (dk_at dksX6_omen_2 16 rfl rfl)
theorem dX6_omen_65 : decode cX6_omen 65 = .ok (.iand, 1) := dk_126 (dk_at dksX6_omen_2 17 rfl rfl)
theorem dX6_omen_66 : decode cX6_omen 66 = .ok (.invokevirtual 82, 3) := dk_182 0 82 (dk_at dksX6_omen_2 18 rfl rfl)
theorem dX6_omen_69 : decode cX6_omen 69 = .ok (.ireturn, 1) := dk_172 (dk_at dksX6_omen_2 21 rfl rfl)
abbrev cX6_isOmen : ByteArray := prog_15_method_54_code
def yX6_isOmen : MethodName := ⟨RX6, "isOmen", "(I)Z"⟩
def dkwX6_isOmen_0 : List UInt8 := [27, 155, 0, 17, 27, 42, 180, 0, 7, 3, 46, 162, 0, 7, 4, 167, 0, 4, 3, 172]
abbrev dktX6_isOmen_0 : List UInt8 := dkwX6_isOmen_0 ++ []
theorem dksX6_isOmen_0 : cX6_isOmen.data.toList.drop 0 = dktX6_isOmen_0 := by decide +kernel
theorem dX6_isOmen_0 : decode cX6_isOmen 0 = .ok (.iload_n 1, 1) := dk_27 (dk_at dksX6_isOmen_0 0 rfl rfl)
theorem dX6_isOmen_1 : decode cX6_isOmen 1 = .ok (.ifCond .lt 17, 3) := dk_155 0 17 (dk_at dksX6_isOmen_0 1 rfl rfl)
theorem dX6_isOmen_4 : decode cX6_isOmen 4 = .ok (.iload_n 1, 1) := dk_27 (dk_at dksX6_isOmen_0 4 rfl rfl)
theorem dX6_isOmen_5 : decode cX6_isOmen 5 = .ok (.aload_n 0, 1) := dk_42 (dk_at dksX6_isOmen_0 5 rfl rfl)
theorem dX6_isOmen_6 : decode cX6_isOmen 6 = .ok (.getfield 7, 3) := dk_180 0 7 (dk_at dksX6_isOmen_0 6 rfl rfl)
theorem dX6_isOmen_9 : decode cX6_isOmen 9 = .ok (.iconst 0, 1) := dk_3 (dk_at dksX6_isOmen_0 9 rfl rfl)
theorem dX6_isOmen_10 : decode cX6_isOmen 10 = .ok (.iaload, 1) := dk_46 (dk_at dksX6_isOmen_0 10 rfl rfl)
theorem dX6_isOmen_11 : decode cX6_isOmen 11 = .ok (.if_icmp .ge 7, 3) := dk_162 0 7 (dk_at dksX6_isOmen_0 11 rfl rfl)
theorem dX6_isOmen_14 : decode cX6_isOmen 14 = .ok (.iconst 1, 1) := dk_4 (dk_at dksX6_isOmen_0 14 rfl rfl)
theorem dX6_isOmen_15 : decode cX6_isOmen 15 = .ok (.goto 4, 3) := dk_167 0 4 (dk_at dksX6_isOmen_0 15 rfl rfl)
theorem dX6_isOmen_18 : decode cX6_isOmen 18 = .ok (.iconst 0, 1) := dk_3 (dk_at dksX6_isOmen_0 18 rfl rfl)
theorem dX6_isOmen_19 : decode cX6_isOmen 19 = .ok (.ireturn, 1) := dk_172 (dk_at dksX6_isOmen_0 19 rfl rfl)
abbrev cX6_excusedFrom : ByteArray := prog_15_method_71_code
def yX6_excusedFrom : MethodName := ⟨RX6, "excusedFrom", "(I)I"⟩
def dkwX6_excusedFrom_1 : List UInt8 := [182, 1, 7, 153, 0, 9, 28, 4, 29, 120, 128, 61, 132, 3, 1, 167, 255, 223, 28, 172]
abbrev dktX6_excusedFrom_1 : List UInt8 := dkwX6_excusedFrom_1 ++ []
def dkwX6_excusedFrom_0 : List UInt8 := [3, 61, 3, 62, 29, 42, 180, 0, 7, 4, 46, 162, 0, 29, 42, 42, 29, 5, 182, 1, 10, 27]
abbrev dktX6_excusedFrom_0 : List UInt8 := dkwX6_excusedFrom_0 ++ dktX6_excusedFrom_1
theorem dksX6_excusedFrom_0 : cX6_excusedFrom.data.toList.drop 0 = dktX6_excusedFrom_0 := by decide +kernel
theorem dksX6_excusedFrom_1 : cX6_excusedFrom.data.toList.drop 22 = dktX6_excusedFrom_1 := dk_seg dksX6_excusedFrom_0 22 rfl rfl
theorem dX6_excusedFrom_0 : decode cX6_excusedFrom 0 = .ok (.iconst 0, 1) := dk_3 (dk_at dksX6_excusedFrom_0 0 rfl rfl)
theorem dX6_excusedFrom_1 : decode cX6_excusedFrom 1 = .ok (.istore_n 2, 1) := dk_61 (dk_at dksX6_excusedFrom_0 1 rfl rfl)
theorem dX6_excusedFrom_2 : decode cX6_excusedFrom 2 = .ok (.iconst 0, 1) := dk_3 (dk_at dksX6_excusedFrom_0 2 rfl rfl)
theorem dX6_excusedFrom_3 : decode cX6_excusedFrom 3 = .ok (.istore_n 3, 1) := dk_62 (dk_at dksX6_excusedFrom_0 3 rfl rfl)
theorem dX6_excusedFrom_4 : decode cX6_excusedFrom 4 = .ok (.iload_n 3, 1) := dk_29 (dk_at dksX6_excusedFrom_0 4 rfl rfl)
theorem dX6_excusedFrom_5 : decode cX6_excusedFrom 5 = .ok (.aload_n 0, 1) := dk_42 (dk_at dksX6_excusedFrom_0 5 rfl rfl)
theorem dX6_excusedFrom_6 : decode cX6_excusedFrom 6 = .ok (.getfield 7, 3) := dk_180 0 7 (dk_at dksX6_excusedFrom_0 6 rfl rfl)
theorem dX6_excusedFrom_9 : decode cX6_excusedFrom 9 = .ok (.iconst 1, 1) := dk_4 (dk_at dksX6_excusedFrom_0 9 rfl rfl)
theorem dX6_excusedFrom_10 : decode cX6_excusedFrom 10 = .ok (.iaload, 1) := dk_46 (dk_at dksX6_excusedFrom_0 10 rfl rfl)
theorem dX6_excusedFrom_11 : decode cX6_excusedFrom 11 = .ok (.if_icmp .ge 29, 3) := dk_162 0 29 (dk_at dksX6_excusedFrom_0 11 rfl rfl)
theorem dX6_excusedFrom_14 : decode cX6_excusedFrom 14 = .ok (.aload_n 0, 1) := dk_42 (dk_at dksX6_excusedFrom_0 14 rfl rfl)
theorem dX6_excusedFrom_15 : decode cX6_excusedFrom 15 = .ok (.aload_n 0, 1) := dk_42 (dk_at dksX6_excusedFrom_0 15 rfl rfl)
theorem dX6_excusedFrom_16 : decode cX6_excusedFrom 16 = .ok (.iload_n 3, 1) := dk_29 (dk_at dksX6_excusedFrom_0 16 rfl rfl)
theorem dX6_excusedFrom_17 : decode cX6_excusedFrom 17 = .ok (.iconst 2, 1) := dk_5 (dk_at dksX6_excusedFrom_0 17 rfl rfl)
theorem dX6_excusedFrom_18 : decode cX6_excusedFrom 18 = .ok (.invokevirtual 266, 3) := dk_182 1 10 (dk_at dksX6_excusedFrom_0 18 rfl rfl)
theorem dX6_excusedFrom_21 : decode cX6_excusedFrom 21 = .ok (.iload_n 1, 1) := dk_27 (dk_at dksX6_excusedFrom_0 21 rfl rfl)
theorem dX6_excusedFrom_22 : decode cX6_excusedFrom 22 = .ok (.invokevirtual 263, 3) := dk_182 1 7 (dk_at dksX6_excusedFrom_1 0 rfl rfl)
theorem dX6_excusedFrom_25 : decode cX6_excusedFrom 25 = .ok (.ifCond .eq 9, 3) := dk_153 0 9 (dk_at dksX6_excusedFrom_1 3 rfl rfl)
theorem dX6_excusedFrom_28 : decode cX6_excusedFrom 28 = .ok (.iload_n 2, 1) := dk_28 (dk_at dksX6_excusedFrom_1 6 rfl rfl)
theorem dX6_excusedFrom_29 : decode cX6_excusedFrom 29 = .ok (.iconst 1, 1) := dk_4 (dk_at dksX6_excusedFrom_1 7 rfl rfl)
theorem dX6_excusedFrom_30 : decode cX6_excusedFrom 30 = .ok (.iload_n 3, 1) := dk_29 (dk_at dksX6_excusedFrom_1 8 rfl rfl)
theorem dX6_excusedFrom_31 : decode cX6_excusedFrom 31 = .ok (.ishl, 1) := dk_120 (dk_at dksX6_excusedFrom_1 9 rfl rfl)
theorem dX6_excusedFrom_32 : decode cX6_excusedFrom 32 = .ok (.ior, 1) := dk_128 (dk_at dksX6_excusedFrom_1 10 rfl rfl)
theorem dX6_excusedFrom_33 : decode cX6_excusedFrom 33 = .ok (.istore_n 2, 1) := dk_61 (dk_at dksX6_excusedFrom_1 11 rfl rfl)
theorem dX6_excusedFrom_34 : decode cX6_excusedFrom 34 = .ok (.iinc 3 1, 3) := dk_132 3 1 (dk_at dksX6_excusedFrom_1 12 rfl rfl)
theorem dX6_excusedFrom_37 : decode cX6_excusedFrom 37 = .ok (.goto (-33), 3) := dk_167 255 223 (dk_at dksX6_excusedFrom_1 15 rfl rfl)
theorem dX6_excusedFrom_40 : decode cX6_excusedFrom 40 = .ok (.iload_n 2, 1) := dk_28 (dk_at dksX6_excusedFrom_1 18 rfl rfl)
theorem dX6_excusedFrom_41 : decode cX6_excusedFrom 41 = .ok (.ireturn, 1) := dk_172 (dk_at dksX6_excusedFrom_1 19 rfl rfl)
abbrev cX6_isIn : ByteArray := prog_15_method_60_code
def yX6_isIn : MethodName := ⟨RX6, "isIn", "(II)Z"⟩
def dkwX6_isIn_0 : List UInt8 := [27, 28, 122, 4, 126, 4, 160, 0, 7, 4, 167, 0, 4, 3, 172]
abbrev dktX6_isIn_0 : List UInt8 := dkwX6_isIn_0 ++ []
theorem dksX6_isIn_0 : cX6_isIn.data.toList.drop 0 = dktX6_isIn_0 := by decide +kernel
theorem dX6_isIn_0 : decode cX6_isIn 0 = .ok (.iload_n 1, 1) := dk_27 (dk_at dksX6_isIn_0 0 rfl rfl)
theorem dX6_isIn_1 : decode cX6_isIn 1 = .ok (.iload_n 2, 1) := dk_28 (dk_at dksX6_isIn_0 1 rfl rfl)
theorem dX6_isIn_2 : decode cX6_isIn 2 = .ok (.ishr, 1) := dk_122 (dk_at dksX6_isIn_0 2 rfl rfl)
theorem dX6_isIn_3 : decode cX6_isIn 3 = .ok (.iconst 1, 1) := dk_4 (dk_at dksX6_isIn_0 3 rfl rfl)
theorem dX6_isIn_4 : decode cX6_isIn 4 = .ok (.iand, 1) := dk_126 (dk_at dksX6_isIn_0 4 rfl rfl)
theorem dX6_isIn_5 : decode cX6_isIn 5 = .ok (.iconst 1, 1) := dk_4 (dk_at dksX6_isIn_0 5 rfl rfl)
theorem dX6_isIn_6 : decode cX6_isIn 6 = .ok (.if_icmp .ne 7, 3) := dk_160 0 7 (dk_at dksX6_isIn_0 6 rfl rfl)
theorem dX6_isIn_9 : decode cX6_isIn 9 = .ok (.iconst 1, 1) := dk_4 (dk_at dksX6_isIn_0 9 rfl rfl)
theorem dX6_isIn_10 : decode cX6_isIn 10 = .ok (.goto 4, 3) := dk_167 0 4 (dk_at dksX6_isIn_0 10 rfl rfl)
theorem dX6_isIn_13 : decode cX6_isIn 13 = .ok (.iconst 0, 1) := dk_3 (dk_at dksX6_isIn_0 13 rfl rfl)
theorem dX6_isIn_14 : decode cX6_isIn 14 = .ok (.ireturn, 1) := dk_172 (dk_at dksX6_isIn_0 14 rfl rfl)
abbrev cX6_person : ByteArray := prog_15_method_73_code
def yX6_person : MethodName := ⟨RX6, "person", "(II)I"⟩
def dkwX6_person_6 : List UInt8 := [182, 1, 13, 182, 0, 82, 172, 42, 42, 27, 182, 1, 43, 182, 0, 82, 172]
abbrev dktX6_person_6 : List UInt8 := dkwX6_person_6 ++ []
def dkwX6_person_5 : List UInt8 := [27, 4, 182, 1, 10, 182, 0, 82, 172, 42, 42, 27, 5, 182, 1, 10, 182, 0, 82, 172, 42, 42, 27]
abbrev dktX6_person_5 : List UInt8 := dkwX6_person_5 ++ dktX6_person_6
def dkwX6_person_4 : List UInt8 := [182, 0, 82, 172, 42, 42, 27, 182, 1, 40, 153, 0, 7, 3, 167, 0, 4, 4, 182, 0, 82, 172, 42, 42]
abbrev dktX6_person_4 : List UInt8 := dkwX6_person_4 ++ dktX6_person_5
def dkwX6_person_3 : List UInt8 := [42, 42, 27, 3, 182, 1, 10, 182, 0, 82, 172, 42, 42, 27, 42, 180, 0, 7, 16, 6, 46, 182, 1, 37]
abbrev dktX6_person_3 : List UInt8 := dkwX6_person_3 ++ dktX6_person_4
def dkwX6_person_2 : List UInt8 := [170, 0, 0, 0, 0, 0, 117, 0, 0, 0, 0, 0, 0, 0, 5, 0, 0, 0, 39, 0, 0, 0, 50, 0, 0, 0, 67, 0, 0, 0, 85, 0, 0, 0, 96, 0, 0, 0, 107]
abbrev dktX6_person_2 : List UInt8 := dkwX6_person_2 ++ dktX6_person_3
def dkwX6_person_1 : List UInt8 := [28]
abbrev dktX6_person_1 : List UInt8 := dkwX6_person_1 ++ dktX6_person_2
def dkwX6_person_0 : List UInt8 := [42, 27, 182, 1, 34, 153, 0, 13, 28, 155, 0, 9, 28, 16, 6, 164, 0, 9, 42, 4, 182, 0, 78, 172]
abbrev dktX6_person_0 : List UInt8 := dkwX6_person_0 ++ dktX6_person_1
theorem dksX6_person_0 : cX6_person.data.toList.drop 0 = dktX6_person_0 := by decide +kernel
theorem dksX6_person_1 : cX6_person.data.toList.drop 24 = dktX6_person_1 := dk_seg dksX6_person_0 24 rfl rfl
theorem dksX6_person_2 : cX6_person.data.toList.drop 25 = dktX6_person_2 := dk_seg dksX6_person_1 1 rfl rfl
theorem dksX6_person_3 : cX6_person.data.toList.drop 64 = dktX6_person_3 := dk_seg dksX6_person_2 39 rfl rfl
theorem dksX6_person_4 : cX6_person.data.toList.drop 88 = dktX6_person_4 := dk_seg dksX6_person_3 24 rfl rfl
theorem dksX6_person_5 : cX6_person.data.toList.drop 112 = dktX6_person_5 := dk_seg dksX6_person_4 24 rfl rfl
theorem dksX6_person_6 : cX6_person.data.toList.drop 135 = dktX6_person_6 := dk_seg dksX6_person_5 23 rfl rfl
theorem dX6_person_0 : decode cX6_person 0 = .ok (.aload_n 0, 1) := dk_42 (dk_at dksX6_person_0 0 rfl rfl)
theorem dX6_person_1 : decode cX6_person 1 = .ok (.iload_n 1, 1) := dk_27 (dk_at dksX6_person_0 1 rfl rfl)
theorem dX6_person_2 : decode cX6_person 2 = .ok (.invokevirtual 290, 3) := dk_182 1 34 (dk_at dksX6_person_0 2 rfl rfl)
theorem dX6_person_5 : decode cX6_person 5 = .ok (.ifCond .eq 13, 3) := dk_153 0 13 (dk_at dksX6_person_0 5 rfl rfl)
theorem dX6_person_8 : decode cX6_person 8 = .ok (.iload_n 2, 1) := dk_28 (dk_at dksX6_person_0 8 rfl rfl)
theorem dX6_person_9 : decode cX6_person 9 = .ok (.ifCond .lt 9, 3) := dk_155 0 9 (dk_at dksX6_person_0 9 rfl rfl)
theorem dX6_person_12 : decode cX6_person 12 = .ok (.iload_n 2, 1) := dk_28 (dk_at dksX6_person_0 12 rfl rfl)
theorem dX6_person_13 : decode cX6_person 13 = .ok (.bipush 6, 2) := dk_16 6 (dk_at dksX6_person_0 13 rfl rfl)
theorem dX6_person_15 : decode cX6_person 15 = .ok (.if_icmp .le 9, 3) := dk_164 0 9 (dk_at dksX6_person_0 15 rfl rfl)
theorem dX6_person_18 : decode cX6_person 18 = .ok (.aload_n 0, 1) := dk_42 (dk_at dksX6_person_0 18 rfl rfl)
theorem dX6_person_19 : decode cX6_person 19 = .ok (.iconst 1, 1) := dk_4 (dk_at dksX6_person_0 19 rfl rfl)
theorem dX6_person_20 : decode cX6_person 20 = .ok (.invokevirtual 78, 3) := dk_182 0 78 (dk_at dksX6_person_0 20 rfl rfl)
theorem dX6_person_23 : decode cX6_person 23 = .ok (.ireturn, 1) := dk_172 (dk_at dksX6_person_0 23 rfl rfl)
theorem dX6_person_24 : decode cX6_person 24 = .ok (.iload_n 2, 1) := dk_28 (dk_at dksX6_person_1 0 rfl rfl)
theorem dX6_person_25 : decode cX6_person 25 = .ok (.tableswitch 117 0 5 #[39, 50, 67, 85, 96, 107], 39) := by decide +kernel
theorem dX6_person_64 : decode cX6_person 64 = .ok (.aload_n 0, 1) := dk_42 (dk_at dksX6_person_3 0 rfl rfl)
theorem dX6_person_65 : decode cX6_person 65 = .ok (.aload_n 0, 1) := dk_42 (dk_at dksX6_person_3 1 rfl rfl)
theorem dX6_person_66 : decode cX6_person 66 = .ok (.iload_n 1, 1) := dk_27 (dk_at dksX6_person_3 2 rfl rfl)
theorem dX6_person_67 : decode cX6_person 67 = .ok (.iconst 0, 1) := dk_3 (dk_at dksX6_person_3 3 rfl rfl)
theorem dX6_person_68 : decode cX6_person 68 = .ok (.invokevirtual 266, 3) := dk_182 1 10 (dk_at dksX6_person_3 4 rfl rfl)
theorem dX6_person_71 : decode cX6_person 71 = .ok (.invokevirtual 82, 3) := dk_182 0 82 (dk_at dksX6_person_3 7 rfl rfl)
theorem dX6_person_74 : decode cX6_person 74 = .ok (.ireturn, 1) := dk_172 (dk_at dksX6_person_3 10 rfl rfl)
theorem dX6_person_75 : decode cX6_person 75 = .ok (.aload_n 0, 1) := dk_42 (dk_at dksX6_person_3 11 rfl rfl)
theorem dX6_person_76 : decode cX6_person 76 = .ok (.aload_n 0, 1) := dk_42 (dk_at dksX6_person_3 12 rfl rfl)
theorem dX6_person_77 : decode cX6_person 77 = .ok (.iload_n 1, 1) := dk_27 (dk_at dksX6_person_3 13 rfl rfl)
theorem dX6_person_78 : decode cX6_person 78 = .ok (.aload_n 0, 1) := dk_42 (dk_at dksX6_person_3 14 rfl rfl)
theorem dX6_person_79 : decode cX6_person 79 = .ok (.getfield 7, 3) := dk_180 0 7 (dk_at dksX6_person_3 15 rfl rfl)
theorem dX6_person_82 : decode cX6_person 82 = .ok (.bipush 6, 2) := dk_16 6 (dk_at dksX6_person_3 18 rfl rfl)
theorem dX6_person_84 : decode cX6_person 84 = .ok (.iaload, 1) := dk_46 (dk_at dksX6_person_3 20 rfl rfl)
theorem dX6_person_85 : decode cX6_person 85 = .ok (.invokevirtual 293, 3) := dk_182 1 37 (dk_at dksX6_person_3 21 rfl rfl)
theorem dX6_person_88 : decode cX6_person 88 = .ok (.invokevirtual 82, 3) := dk_182 0 82 (dk_at dksX6_person_4 0 rfl rfl)
theorem dX6_person_91 : decode cX6_person 91 = .ok (.ireturn, 1) := dk_172 (dk_at dksX6_person_4 3 rfl rfl)
theorem dX6_person_92 : decode cX6_person 92 = .ok (.aload_n 0, 1) := dk_42 (dk_at dksX6_person_4 4 rfl rfl)
theorem dX6_person_93 : decode cX6_person 93 = .ok (.aload_n 0, 1) := dk_42 (dk_at dksX6_person_4 5 rfl rfl)
theorem dX6_person_94 : decode cX6_person 94 = .ok (.iload_n 1, 1) := dk_27 (dk_at dksX6_person_4 6 rfl rfl)
theorem dX6_person_95 : decode cX6_person 95 = .ok (.invokevirtual 296, 3) := dk_182 1 40 (dk_at dksX6_person_4 7 rfl rfl)
theorem dX6_person_98 : decode cX6_person 98 = .ok (.ifCond .eq 7, 3) := dk_153 0 7 (dk_at dksX6_person_4 10 rfl rfl)
theorem dX6_person_101 : decode cX6_person 101 = .ok (.iconst 0, 1) := dk_3 (dk_at dksX6_person_4 13 rfl rfl)
theorem dX6_person_102 : decode cX6_person 102 = .ok (.goto 4, 3) := dk_167 0 4 (dk_at dksX6_person_4 14 rfl rfl)
theorem dX6_person_105 : decode cX6_person 105 = .ok (.iconst 1, 1) := dk_4 (dk_at dksX6_person_4 17 rfl rfl)
theorem dX6_person_106 : decode cX6_person 106 = .ok (.invokevirtual 82, 3) := dk_182 0 82 (dk_at dksX6_person_4 18 rfl rfl)
theorem dX6_person_109 : decode cX6_person 109 = .ok (.ireturn, 1) := dk_172 (dk_at dksX6_person_4 21 rfl rfl)
theorem dX6_person_110 : decode cX6_person 110 = .ok (.aload_n 0, 1) := dk_42 (dk_at dksX6_person_4 22 rfl rfl)
theorem dX6_person_111 : decode cX6_person 111 = .ok (.aload_n 0, 1) := dk_42 (dk_at dksX6_person_4 23 rfl rfl)
theorem dX6_person_112 : decode cX6_person 112 = .ok (.iload_n 1, 1) := dk_27 (dk_at dksX6_person_5 0 rfl rfl)
theorem dX6_person_113 : decode cX6_person 113 = .ok (.iconst 1, 1) := dk_4 (dk_at dksX6_person_5 1 rfl rfl)
theorem dX6_person_114 : decode cX6_person 114 = .ok (.invokevirtual 266, 3) := dk_182 1 10 (dk_at dksX6_person_5 2 rfl rfl)
theorem dX6_person_117 : decode cX6_person 117 = .ok (.invokevirtual 82, 3) := dk_182 0 82 (dk_at dksX6_person_5 5 rfl rfl)
theorem dX6_person_120 : decode cX6_person 120 = .ok (.ireturn, 1) := dk_172 (dk_at dksX6_person_5 8 rfl rfl)
theorem dX6_person_121 : decode cX6_person 121 = .ok (.aload_n 0, 1) := dk_42 (dk_at dksX6_person_5 9 rfl rfl)
theorem dX6_person_122 : decode cX6_person 122 = .ok (.aload_n 0, 1) := dk_42 (dk_at dksX6_person_5 10 rfl rfl)
theorem dX6_person_123 : decode cX6_person 123 = .ok (.iload_n 1, 1) := dk_27 (dk_at dksX6_person_5 11 rfl rfl)
theorem dX6_person_124 : decode cX6_person 124 = .ok (.iconst 2, 1) := dk_5 (dk_at dksX6_person_5 12 rfl rfl)
theorem dX6_person_125 : decode cX6_person 125 = .ok (.invokevirtual 266, 3) := dk_182 1 10 (dk_at dksX6_person_5 13 rfl rfl)
theorem dX6_person_128 : decode cX6_person 128 = .ok (.invokevirtual 82, 3) := dk_182 0 82 (dk_at dksX6_person_5 16 rfl rfl)
theorem dX6_person_131 : decode cX6_person 131 = .ok (.ireturn, 1) := dk_172 (dk_at dksX6_person_5 19 rfl rfl)
theorem dX6_person_132 : decode cX6_person 132 = .ok (.aload_n 0, 1) := dk_42 (dk_at dksX6_person_5 20 rfl rfl)
theorem dX6_person_133 : decode cX6_person 133 = .ok (.aload_n 0, 1) := dk_42 (dk_at dksX6_person_5 21 rfl rfl)
theorem dX6_person_134 : decode cX6_person 134 = .ok (.iload_n 1, 1) := dk_27 (dk_at dksX6_person_5 22 rfl rfl)
theorem dX6_person_135 : decode cX6_person 135 = .ok (.invokevirtual 269, 3) := dk_182 1 13 (dk_at dksX6_person_6 0 rfl rfl)
theorem dX6_person_138 : decode cX6_person 138 = .ok (.invokevirtual 82, 3) := dk_182 0 82 (dk_at dksX6_person_6 3 rfl rfl)
theorem dX6_person_141 : decode cX6_person 141 = .ok (.ireturn, 1) := dk_172 (dk_at dksX6_person_6 6 rfl rfl)
theorem dX6_person_142 : decode cX6_person 142 = .ok (.aload_n 0, 1) := dk_42 (dk_at dksX6_person_6 7 rfl rfl)
theorem dX6_person_143 : decode cX6_person 143 = .ok (.aload_n 0, 1) := dk_42 (dk_at dksX6_person_6 8 rfl rfl)
theorem dX6_person_144 : decode cX6_person 144 = .ok (.iload_n 1, 1) := dk_27 (dk_at dksX6_person_6 9 rfl rfl)
theorem dX6_person_145 : decode cX6_person 145 = .ok (.invokevirtual 299, 3) := dk_182 1 43 (dk_at dksX6_person_6 10 rfl rfl)
theorem dX6_person_148 : decode cX6_person 148 = .ok (.invokevirtual 82, 3) := dk_182 0 82 (dk_at dksX6_person_6 13 rfl rfl)
theorem dX6_person_151 : decode cX6_person 151 = .ok (.ireturn, 1) := dk_172 (dk_at dksX6_person_6 16 rfl rfl)
abbrev cX6_isPerson : ByteArray := prog_15_method_55_code
def yX6_isPerson : MethodName := ⟨RX6, "isPerson", "(I)Z"⟩
def dkwX6_isPerson_0 : List UInt8 := [27, 155, 0, 17, 27, 42, 180, 0, 7, 4, 46, 162, 0, 7, 4, 167, 0, 4, 3, 172]
abbrev dktX6_isPerson_0 : List UInt8 := dkwX6_isPerson_0 ++ []
theorem dksX6_isPerson_0 : cX6_isPerson.data.toList.drop 0 = dktX6_isPerson_0 := by decide +kernel
theorem dX6_isPerson_0 : decode cX6_isPerson 0 = .ok (.iload_n 1, 1) := dk_27 (dk_at dksX6_isPerson_0 0 rfl rfl)
theorem dX6_isPerson_1 : decode cX6_isPerson 1 = .ok (.ifCond .lt 17, 3) := dk_155 0 17 (dk_at dksX6_isPerson_0 1 rfl rfl)
theorem dX6_isPerson_4 : decode cX6_isPerson 4 = .ok (.iload_n 1, 1) := dk_27 (dk_at dksX6_isPerson_0 4 rfl rfl)
theorem dX6_isPerson_5 : decode cX6_isPerson 5 = .ok (.aload_n 0, 1) := dk_42 (dk_at dksX6_isPerson_0 5 rfl rfl)
theorem dX6_isPerson_6 : decode cX6_isPerson 6 = .ok (.getfield 7, 3) := dk_180 0 7 (dk_at dksX6_isPerson_0 6 rfl rfl)
theorem dX6_isPerson_9 : decode cX6_isPerson 9 = .ok (.iconst 1, 1) := dk_4 (dk_at dksX6_isPerson_0 9 rfl rfl)
theorem dX6_isPerson_10 : decode cX6_isPerson 10 = .ok (.iaload, 1) := dk_46 (dk_at dksX6_isPerson_0 10 rfl rfl)
theorem dX6_isPerson_11 : decode cX6_isPerson 11 = .ok (.if_icmp .ge 7, 3) := dk_162 0 7 (dk_at dksX6_isPerson_0 11 rfl rfl)
theorem dX6_isPerson_14 : decode cX6_isPerson 14 = .ok (.iconst 1, 1) := dk_4 (dk_at dksX6_isPerson_0 14 rfl rfl)
theorem dX6_isPerson_15 : decode cX6_isPerson 15 = .ok (.goto 4, 3) := dk_167 0 4 (dk_at dksX6_isPerson_0 15 rfl rfl)
theorem dX6_isPerson_18 : decode cX6_isPerson 18 = .ok (.iconst 0, 1) := dk_3 (dk_at dksX6_isPerson_0 18 rfl rfl)
theorem dX6_isPerson_19 : decode cX6_isPerson 19 = .ok (.ireturn, 1) := dk_172 (dk_at dksX6_isPerson_0 19 rfl rfl)
abbrev cX6_needOf : ByteArray := prog_15_method_68_code
def yX6_needOf : MethodName := ⟨RX6, "needOf", "(II)I"⟩
def dkwX6_needOf_0 : List UInt8 := [3, 42, 27, 3, 182, 1, 10, 42, 27, 28, 182, 1, 16, 100, 184, 1, 19, 172]
abbrev dktX6_needOf_0 : List UInt8 := dkwX6_needOf_0 ++ []
theorem dksX6_needOf_0 : cX6_needOf.data.toList.drop 0 = dktX6_needOf_0 := by decide +kernel
theorem dX6_needOf_0 : decode cX6_needOf 0 = .ok (.iconst 0, 1) := dk_3 (dk_at dksX6_needOf_0 0 rfl rfl)
theorem dX6_needOf_1 : decode cX6_needOf 1 = .ok (.aload_n 0, 1) := dk_42 (dk_at dksX6_needOf_0 1 rfl rfl)
theorem dX6_needOf_2 : decode cX6_needOf 2 = .ok (.iload_n 1, 1) := dk_27 (dk_at dksX6_needOf_0 2 rfl rfl)
theorem dX6_needOf_3 : decode cX6_needOf 3 = .ok (.iconst 0, 1) := dk_3 (dk_at dksX6_needOf_0 3 rfl rfl)
theorem dX6_needOf_4 : decode cX6_needOf 4 = .ok (.invokevirtual 266, 3) := dk_182 1 10 (dk_at dksX6_needOf_0 4 rfl rfl)
theorem dX6_needOf_7 : decode cX6_needOf 7 = .ok (.aload_n 0, 1) := dk_42 (dk_at dksX6_needOf_0 7 rfl rfl)
theorem dX6_needOf_8 : decode cX6_needOf 8 = .ok (.iload_n 1, 1) := dk_27 (dk_at dksX6_needOf_0 8 rfl rfl)
theorem dX6_needOf_9 : decode cX6_needOf 9 = .ok (.iload_n 2, 1) := dk_28 (dk_at dksX6_needOf_0 9 rfl rfl)
theorem dX6_needOf_10 : decode cX6_needOf 10 = .ok (.invokevirtual 272, 3) := dk_182 1 16 (dk_at dksX6_needOf_0 10 rfl rfl)
theorem dX6_needOf_13 : decode cX6_needOf 13 = .ok (.isub, 1) := dk_100 (dk_at dksX6_needOf_0 13 rfl rfl)
theorem dX6_needOf_14 : decode cX6_needOf 14 = .ok (.invokestatic 275, 3) := dk_184 1 19 (dk_at dksX6_needOf_0 14 rfl rfl)
theorem dX6_needOf_17 : decode cX6_needOf 17 = .ok (.ireturn, 1) := dk_172 (dk_at dksX6_needOf_0 17 rfl rfl)
abbrev cX6_pullOn : ByteArray := prog_15_method_67_code
def yX6_pullOn : MethodName := ⟨RX6, "pullOn", "(II)I"⟩
def dkwX6_pullOn_2 : List UInt8 := [16, 10, 21, 4, 96, 46, 96, 62, 132, 4, 1, 167, 255, 204, 29, 172]
abbrev dktX6_pullOn_2 : List UInt8 := dkwX6_pullOn_2 ++ []
def dkwX6_pullOn_1 : List UInt8 := [153, 0, 31, 42, 42, 27, 5, 182, 1, 10, 21, 4, 182, 1, 7, 154, 0, 16, 29, 42, 180, 0, 7]
abbrev dktX6_pullOn_1 : List UInt8 := dkwX6_pullOn_1 ++ dktX6_pullOn_2
def dkwX6_pullOn_0 : List UInt8 := [3, 62, 3, 54, 4, 21, 4, 42, 180, 0, 7, 3, 46, 162, 0, 47, 42, 28, 21, 4, 182, 1, 7]
abbrev dktX6_pullOn_0 : List UInt8 := dkwX6_pullOn_0 ++ dktX6_pullOn_1
theorem dksX6_pullOn_0 : cX6_pullOn.data.toList.drop 0 = dktX6_pullOn_0 := by decide +kernel
theorem dksX6_pullOn_1 : cX6_pullOn.data.toList.drop 23 = dktX6_pullOn_1 := dk_seg dksX6_pullOn_0 23 rfl rfl
theorem dksX6_pullOn_2 : cX6_pullOn.data.toList.drop 46 = dktX6_pullOn_2 := dk_seg dksX6_pullOn_1 23 rfl rfl
theorem dX6_pullOn_0 : decode cX6_pullOn 0 = .ok (.iconst 0, 1) := dk_3 (dk_at dksX6_pullOn_0 0 rfl rfl)
theorem dX6_pullOn_1 : decode cX6_pullOn 1 = .ok (.istore_n 3, 1) := dk_62 (dk_at dksX6_pullOn_0 1 rfl rfl)
theorem dX6_pullOn_2 : decode cX6_pullOn 2 = .ok (.iconst 0, 1) := dk_3 (dk_at dksX6_pullOn_0 2 rfl rfl)
theorem dX6_pullOn_3 : decode cX6_pullOn 3 = .ok (.istore 4, 2) := dk_54 4 (dk_at dksX6_pullOn_0 3 rfl rfl)
theorem dX6_pullOn_5 : decode cX6_pullOn 5 = .ok (.iload 4, 2) := dk_21 4 (dk_at dksX6_pullOn_0 5 rfl rfl)
theorem dX6_pullOn_7 : decode cX6_pullOn 7 = .ok (.aload_n 0, 1) := dk_42 (dk_at dksX6_pullOn_0 7 rfl rfl)
theorem dX6_pullOn_8 : decode cX6_pullOn 8 = .ok (.getfield 7, 3) := dk_180 0 7 (dk_at dksX6_pullOn_0 8 rfl rfl)
theorem dX6_pullOn_11 : decode cX6_pullOn 11 = .ok (.iconst 0, 1) := dk_3 (dk_at dksX6_pullOn_0 11 rfl rfl)
theorem dX6_pullOn_12 : decode cX6_pullOn 12 = .ok (.iaload, 1) := dk_46 (dk_at dksX6_pullOn_0 12 rfl rfl)
theorem dX6_pullOn_13 : decode cX6_pullOn 13 = .ok (.if_icmp .ge 47, 3) := dk_162 0 47 (dk_at dksX6_pullOn_0 13 rfl rfl)
theorem dX6_pullOn_16 : decode cX6_pullOn 16 = .ok (.aload_n 0, 1) := dk_42 (dk_at dksX6_pullOn_0 16 rfl rfl)
theorem dX6_pullOn_17 : decode cX6_pullOn 17 = .ok (.iload_n 2, 1) := dk_28 (dk_at dksX6_pullOn_0 17 rfl rfl)
theorem dX6_pullOn_18 : decode cX6_pullOn 18 = .ok (.iload 4, 2) := dk_21 4 (dk_at dksX6_pullOn_0 18 rfl rfl)
theorem dX6_pullOn_20 : decode cX6_pullOn 20 = .ok (.invokevirtual 263, 3) := dk_182 1 7 (dk_at dksX6_pullOn_0 20 rfl rfl)
theorem dX6_pullOn_23 : decode cX6_pullOn 23 = .ok (.ifCond .eq 31, 3) := dk_153 0 31 (dk_at dksX6_pullOn_1 0 rfl rfl)
theorem dX6_pullOn_26 : decode cX6_pullOn 26 = .ok (.aload_n 0, 1) := dk_42 (dk_at dksX6_pullOn_1 3 rfl rfl)
theorem dX6_pullOn_27 : decode cX6_pullOn 27 = .ok (.aload_n 0, 1) := dk_42 (dk_at dksX6_pullOn_1 4 rfl rfl)
theorem dX6_pullOn_28 : decode cX6_pullOn 28 = .ok (.iload_n 1, 1) := dk_27 (dk_at dksX6_pullOn_1 5 rfl rfl)
theorem dX6_pullOn_29 : decode cX6_pullOn 29 = .ok (.iconst 2, 1) := dk_5 (dk_at dksX6_pullOn_1 6 rfl rfl)
theorem dX6_pullOn_30 : decode cX6_pullOn 30 = .ok (.invokevirtual 266, 3) := dk_182 1 10 (dk_at dksX6_pullOn_1 7 rfl rfl)
theorem dX6_pullOn_33 : decode cX6_pullOn 33 = .ok (.iload 4, 2) := dk_21 4 (dk_at dksX6_pullOn_1 10 rfl rfl)
theorem dX6_pullOn_35 : decode cX6_pullOn 35 = .ok (.invokevirtual 263, 3) := dk_182 1 7 (dk_at dksX6_pullOn_1 12 rfl rfl)
theorem dX6_pullOn_38 : decode cX6_pullOn 38 = .ok (.ifCond .ne 16, 3) := dk_154 0 16 (dk_at dksX6_pullOn_1 15 rfl rfl)
theorem dX6_pullOn_41 : decode cX6_pullOn 41 = .ok (.iload_n 3, 1) := dk_29 (dk_at dksX6_pullOn_1 18 rfl rfl)
theorem dX6_pullOn_42 : decode cX6_pullOn 42 = .ok (.aload_n 0, 1) := dk_42 (dk_at dksX6_pullOn_1 19 rfl rfl)
theorem dX6_pullOn_43 : decode cX6_pullOn 43 = .ok (.getfield 7, 3) := dk_180 0 7 (dk_at dksX6_pullOn_1 20 rfl rfl)
theorem dX6_pullOn_46 : decode cX6_pullOn 46 = .ok (.bipush 10, 2) := dk_16 10 (dk_at dksX6_pullOn_2 0 rfl rfl)
theorem dX6_pullOn_48 : decode cX6_pullOn 48 = .ok (.iload 4, 2) := dk_21 4 (dk_at dksX6_pullOn_2 2 rfl rfl)
theorem dX6_pullOn_50 : decode cX6_pullOn 50 = .ok (.iadd, 1) := dk_96 (dk_at dksX6_pullOn_2 4 rfl rfl)
theorem dX6_pullOn_51 : decode cX6_pullOn 51 = .ok (.iaload, 1) := dk_46 (dk_at dksX6_pullOn_2 5 rfl rfl)
theorem dX6_pullOn_52 : decode cX6_pullOn 52 = .ok (.iadd, 1) := dk_96 (dk_at dksX6_pullOn_2 6 rfl rfl)
theorem dX6_pullOn_53 : decode cX6_pullOn 53 = .ok (.istore_n 3, 1) := dk_62 (dk_at dksX6_pullOn_2 7 rfl rfl)
theorem dX6_pullOn_54 : decode cX6_pullOn 54 = .ok (.iinc 4 1, 3) := dk_132 4 1 (dk_at dksX6_pullOn_2 8 rfl rfl)
theorem dX6_pullOn_57 : decode cX6_pullOn 57 = .ok (.goto (-52), 3) := dk_167 255 204 (dk_at dksX6_pullOn_2 11 rfl rfl)
theorem dX6_pullOn_60 : decode cX6_pullOn 60 = .ok (.iload_n 3, 1) := dk_29 (dk_at dksX6_pullOn_2 14 rfl rfl)
theorem dX6_pullOn_61 : decode cX6_pullOn 61 = .ok (.ireturn, 1) := dk_172 (dk_at dksX6_pullOn_2 15 rfl rfl)
abbrev cX6_isOut : ByteArray := prog_15_method_64_code
def yX6_isOut : MethodName := ⟨RX6, "isOut", "(I)Z"⟩
def dkwX6_isOut_0 : List UInt8 := [42, 42, 180, 0, 7, 16, 7, 46, 27, 182, 1, 7, 172]
abbrev dktX6_isOut_0 : List UInt8 := dkwX6_isOut_0 ++ []
theorem dksX6_isOut_0 : cX6_isOut.data.toList.drop 0 = dktX6_isOut_0 := by decide +kernel
theorem dX6_isOut_0 : decode cX6_isOut 0 = .ok (.aload_n 0, 1) := dk_42 (dk_at dksX6_isOut_0 0 rfl rfl)
theorem dX6_isOut_1 : decode cX6_isOut 1 = .ok (.aload_n 0, 1) := dk_42 (dk_at dksX6_isOut_0 1 rfl rfl)
theorem dX6_isOut_2 : decode cX6_isOut 2 = .ok (.getfield 7, 3) := dk_180 0 7 (dk_at dksX6_isOut_0 2 rfl rfl)
theorem dX6_isOut_5 : decode cX6_isOut 5 = .ok (.bipush 7, 2) := dk_16 7 (dk_at dksX6_isOut_0 5 rfl rfl)
theorem dX6_isOut_7 : decode cX6_isOut 7 = .ok (.iaload, 1) := dk_46 (dk_at dksX6_isOut_0 7 rfl rfl)
theorem dX6_isOut_8 : decode cX6_isOut 8 = .ok (.iload_n 1, 1) := dk_27 (dk_at dksX6_isOut_0 8 rfl rfl)
theorem dX6_isOut_9 : decode cX6_isOut 9 = .ok (.invokevirtual 263, 3) := dk_182 1 7 (dk_at dksX6_isOut_0 9 rfl rfl)
theorem dX6_isOut_12 : decode cX6_isOut 12 = .ok (.ireturn, 1) := dk_172 (dk_at dksX6_isOut_0 12 rfl rfl)
abbrev cX6_seenBy : ByteArray := prog_15_method_65_code
def yX6_seenBy : MethodName := ⟨RX6, "seenBy", "(I)I"⟩
def dkwX6_seenBy_0 : List UInt8 := [42, 182, 1, 4, 42, 27, 6, 182, 1, 10, 2, 130, 126, 4, 27, 120, 2, 130, 126, 172]
abbrev dktX6_seenBy_0 : List UInt8 := dkwX6_seenBy_0 ++ []
theorem dksX6_seenBy_0 : cX6_seenBy.data.toList.drop 0 = dktX6_seenBy_0 := by decide +kernel
theorem dX6_seenBy_0 : decode cX6_seenBy 0 = .ok (.aload_n 0, 1) := dk_42 (dk_at dksX6_seenBy_0 0 rfl rfl)
theorem dX6_seenBy_1 : decode cX6_seenBy 1 = .ok (.invokevirtual 260, 3) := dk_182 1 4 (dk_at dksX6_seenBy_0 1 rfl rfl)
theorem dX6_seenBy_4 : decode cX6_seenBy 4 = .ok (.aload_n 0, 1) := dk_42 (dk_at dksX6_seenBy_0 4 rfl rfl)
theorem dX6_seenBy_5 : decode cX6_seenBy 5 = .ok (.iload_n 1, 1) := dk_27 (dk_at dksX6_seenBy_0 5 rfl rfl)
theorem dX6_seenBy_6 : decode cX6_seenBy 6 = .ok (.iconst 3, 1) := dk_6 (dk_at dksX6_seenBy_0 6 rfl rfl)
theorem dX6_seenBy_7 : decode cX6_seenBy 7 = .ok (.invokevirtual 266, 3) := dk_182 1 10 (dk_at dksX6_seenBy_0 7 rfl rfl)
theorem dX6_seenBy_10 : decode cX6_seenBy 10 = .ok (.iconst (-1), 1) := dk_2 (dk_at dksX6_seenBy_0 10 rfl rfl)
theorem dX6_seenBy_11 : decode cX6_seenBy 11 = .ok (.ixor, 1) := dk_130 (dk_at dksX6_seenBy_0 11 rfl rfl)
theorem dX6_seenBy_12 : decode cX6_seenBy 12 = .ok (.iand, 1) := dk_126 (dk_at dksX6_seenBy_0 12 rfl rfl)
theorem dX6_seenBy_13 : decode cX6_seenBy 13 = .ok (.iconst 1, 1) := dk_4 (dk_at dksX6_seenBy_0 13 rfl rfl)
theorem dX6_seenBy_14 : decode cX6_seenBy 14 = .ok (.iload_n 1, 1) := dk_27 (dk_at dksX6_seenBy_0 14 rfl rfl)
theorem dX6_seenBy_15 : decode cX6_seenBy 15 = .ok (.ishl, 1) := dk_120 (dk_at dksX6_seenBy_0 15 rfl rfl)
theorem dX6_seenBy_16 : decode cX6_seenBy 16 = .ok (.iconst (-1), 1) := dk_2 (dk_at dksX6_seenBy_0 16 rfl rfl)
theorem dX6_seenBy_17 : decode cX6_seenBy 17 = .ok (.ixor, 1) := dk_130 (dk_at dksX6_seenBy_0 17 rfl rfl)
theorem dX6_seenBy_18 : decode cX6_seenBy 18 = .ok (.iand, 1) := dk_126 (dk_at dksX6_seenBy_0 18 rfl rfl)
theorem dX6_seenBy_19 : decode cX6_seenBy 19 = .ok (.ireturn, 1) := dk_172 (dk_at dksX6_seenBy_0 19 rfl rfl)
abbrev cX6_whoSee : ByteArray := prog_15_method_66_code
def yX6_whoSee : MethodName := ⟨RX6, "whoSee", "(I)I"⟩
def dkwX6_whoSee_1 : List UInt8 := [153, 0, 9, 28, 4, 29, 120, 128, 61, 132, 3, 1, 167, 255, 224, 28, 172]
abbrev dktX6_whoSee_1 : List UInt8 := dkwX6_whoSee_1 ++ []
def dkwX6_whoSee_0 : List UInt8 := [3, 61, 3, 62, 29, 42, 180, 0, 7, 4, 46, 162, 0, 28, 42, 42, 29, 182, 1, 13, 27, 182, 1, 7]
abbrev dktX6_whoSee_0 : List UInt8 := dkwX6_whoSee_0 ++ dktX6_whoSee_1
theorem dksX6_whoSee_0 : cX6_whoSee.data.toList.drop 0 = dktX6_whoSee_0 := by decide +kernel
theorem dksX6_whoSee_1 : cX6_whoSee.data.toList.drop 24 = dktX6_whoSee_1 := dk_seg dksX6_whoSee_0 24 rfl rfl
theorem dX6_whoSee_0 : decode cX6_whoSee 0 = .ok (.iconst 0, 1) := dk_3 (dk_at dksX6_whoSee_0 0 rfl rfl)
theorem dX6_whoSee_1 : decode cX6_whoSee 1 = .ok (.istore_n 2, 1) := dk_61 (dk_at dksX6_whoSee_0 1 rfl rfl)
theorem dX6_whoSee_2 : decode cX6_whoSee 2 = .ok (.iconst 0, 1) := dk_3 (dk_at dksX6_whoSee_0 2 rfl rfl)
theorem dX6_whoSee_3 : decode cX6_whoSee 3 = .ok (.istore_n 3, 1) := dk_62 (dk_at dksX6_whoSee_0 3 rfl rfl)
theorem dX6_whoSee_4 : decode cX6_whoSee 4 = .ok (.iload_n 3, 1) := dk_29 (dk_at dksX6_whoSee_0 4 rfl rfl)
theorem dX6_whoSee_5 : decode cX6_whoSee 5 = .ok (.aload_n 0, 1) := dk_42 (dk_at dksX6_whoSee_0 5 rfl rfl)
theorem dX6_whoSee_6 : decode cX6_whoSee 6 = .ok (.getfield 7, 3) := dk_180 0 7 (dk_at dksX6_whoSee_0 6 rfl rfl)
theorem dX6_whoSee_9 : decode cX6_whoSee 9 = .ok (.iconst 1, 1) := dk_4 (dk_at dksX6_whoSee_0 9 rfl rfl)
theorem dX6_whoSee_10 : decode cX6_whoSee 10 = .ok (.iaload, 1) := dk_46 (dk_at dksX6_whoSee_0 10 rfl rfl)
theorem dX6_whoSee_11 : decode cX6_whoSee 11 = .ok (.if_icmp .ge 28, 3) := dk_162 0 28 (dk_at dksX6_whoSee_0 11 rfl rfl)
theorem dX6_whoSee_14 : decode cX6_whoSee 14 = .ok (.aload_n 0, 1) := dk_42 (dk_at dksX6_whoSee_0 14 rfl rfl)
theorem dX6_whoSee_15 : decode cX6_whoSee 15 = .ok (.aload_n 0, 1) := dk_42 (dk_at dksX6_whoSee_0 15 rfl rfl)
theorem dX6_whoSee_16 : decode cX6_whoSee 16 = .ok (.iload_n 3, 1) := dk_29 (dk_at dksX6_whoSee_0 16 rfl rfl)
theorem dX6_whoSee_17 : decode cX6_whoSee 17 = .ok (.invokevirtual 269, 3) := dk_182 1 13 (dk_at dksX6_whoSee_0 17 rfl rfl)
theorem dX6_whoSee_20 : decode cX6_whoSee 20 = .ok (.iload_n 1, 1) := dk_27 (dk_at dksX6_whoSee_0 20 rfl rfl)
theorem dX6_whoSee_21 : decode cX6_whoSee 21 = .ok (.invokevirtual 263, 3) := dk_182 1 7 (dk_at dksX6_whoSee_0 21 rfl rfl)
theorem dX6_whoSee_24 : decode cX6_whoSee 24 = .ok (.ifCond .eq 9, 3) := dk_153 0 9 (dk_at dksX6_whoSee_1 0 rfl rfl)
theorem dX6_whoSee_27 : decode cX6_whoSee 27 = .ok (.iload_n 2, 1) := dk_28 (dk_at dksX6_whoSee_1 3 rfl rfl)
theorem dX6_whoSee_28 : decode cX6_whoSee 28 = .ok (.iconst 1, 1) := dk_4 (dk_at dksX6_whoSee_1 4 rfl rfl)
theorem dX6_whoSee_29 : decode cX6_whoSee 29 = .ok (.iload_n 3, 1) := dk_29 (dk_at dksX6_whoSee_1 5 rfl rfl)
theorem dX6_whoSee_30 : decode cX6_whoSee 30 = .ok (.ishl, 1) := dk_120 (dk_at dksX6_whoSee_1 6 rfl rfl)
theorem dX6_whoSee_31 : decode cX6_whoSee 31 = .ok (.ior, 1) := dk_128 (dk_at dksX6_whoSee_1 7 rfl rfl)
theorem dX6_whoSee_32 : decode cX6_whoSee 32 = .ok (.istore_n 2, 1) := dk_61 (dk_at dksX6_whoSee_1 8 rfl rfl)
theorem dX6_whoSee_33 : decode cX6_whoSee 33 = .ok (.iinc 3 1, 3) := dk_132 3 1 (dk_at dksX6_whoSee_1 9 rfl rfl)
theorem dX6_whoSee_36 : decode cX6_whoSee 36 = .ok (.goto (-32), 3) := dk_167 255 224 (dk_at dksX6_whoSee_1 12 rfl rfl)
theorem dX6_whoSee_39 : decode cX6_whoSee 39 = .ok (.iload_n 2, 1) := dk_28 (dk_at dksX6_whoSee_1 15 rfl rfl)
theorem dX6_whoSee_40 : decode cX6_whoSee 40 = .ok (.ireturn, 1) := dk_172 (dk_at dksX6_whoSee_1 16 rfl rfl)
abbrev cX6_call : ByteArray := prog_15_method_78_code
def yX6_call : MethodName := ⟨RX6, "call", "()I"⟩
def dkwX6_call_1 : List UInt8 := [182, 0, 82, 172]
abbrev dktX6_call_1 : List UInt8 := dkwX6_call_1 ++ []
def dkwX6_call_0 : List UInt8 := [42, 180, 0, 7, 8, 46, 17, 39, 15, 160, 0, 9, 42, 7, 182, 0, 78, 172, 42, 42, 182, 1, 59]
abbrev dktX6_call_0 : List UInt8 := dkwX6_call_0 ++ dktX6_call_1
theorem dksX6_call_0 : cX6_call.data.toList.drop 0 = dktX6_call_0 := by decide +kernel
theorem dksX6_call_1 : cX6_call.data.toList.drop 23 = dktX6_call_1 := dk_seg dksX6_call_0 23 rfl rfl
theorem dX6_call_0 : decode cX6_call 0 = .ok (.aload_n 0, 1) := dk_42 (dk_at dksX6_call_0 0 rfl rfl)
theorem dX6_call_1 : decode cX6_call 1 = .ok (.getfield 7, 3) := dk_180 0 7 (dk_at dksX6_call_0 1 rfl rfl)
theorem dX6_call_4 : decode cX6_call 4 = .ok (.iconst 5, 1) := dk_8 (dk_at dksX6_call_0 4 rfl rfl)
theorem dX6_call_5 : decode cX6_call 5 = .ok (.iaload, 1) := dk_46 (dk_at dksX6_call_0 5 rfl rfl)
theorem dX6_call_6 : decode cX6_call 6 = .ok (.sipush 9999, 3) := dk_17 39 15 (dk_at dksX6_call_0 6 rfl rfl)
theorem dX6_call_9 : decode cX6_call 9 = .ok (.if_icmp .ne 9, 3) := dk_160 0 9 (dk_at dksX6_call_0 9 rfl rfl)
theorem dX6_call_12 : decode cX6_call 12 = .ok (.aload_n 0, 1) := dk_42 (dk_at dksX6_call_0 12 rfl rfl)
theorem dX6_call_13 : decode cX6_call 13 = .ok (.iconst 4, 1) := dk_7 (dk_at dksX6_call_0 13 rfl rfl)
theorem dX6_call_14 : decode cX6_call 14 = .ok (.invokevirtual 78, 3) := dk_182 0 78 (dk_at dksX6_call_0 14 rfl rfl)
theorem dX6_call_17 : decode cX6_call 17 = .ok (.ireturn, 1) := dk_172 (dk_at dksX6_call_0 17 rfl rfl)
theorem dX6_call_18 : decode cX6_call 18 = .ok (.aload_n 0, 1) := dk_42 (dk_at dksX6_call_0 18 rfl rfl)
theorem dX6_call_19 : decode cX6_call 19 = .ok (.aload_n 0, 1) := dk_42 (dk_at dksX6_call_0 19 rfl rfl)
theorem dX6_call_20 : decode cX6_call 20 = .ok (.invokevirtual 315, 3) := dk_182 1 59 (dk_at dksX6_call_0 20 rfl rfl)
theorem dX6_call_23 : decode cX6_call 23 = .ok (.invokevirtual 82, 3) := dk_182 0 82 (dk_at dksX6_call_1 0 rfl rfl)
theorem dX6_call_26 : decode cX6_call 26 = .ok (.ireturn, 1) := dk_172 (dk_at dksX6_call_1 3 rfl rfl)
abbrev cX6_calling : ByteArray := prog_15_method_77_code
def yX6_calling : MethodName := ⟨RX6, "calling", "()I"⟩
def dkwX6_calling_4 : List UInt8 := [167, 255, 190, 42, 180, 0, 7, 8, 92, 46, 4, 96, 79, 27, 172]
abbrev dktX6_calling_4 : List UInt8 := dkwX6_calling_4 ++ []
def dkwX6_calling_3 : List UInt8 := [46, 96, 184, 0, 133, 79, 42, 180, 0, 7, 28, 184, 0, 194, 4, 96, 92, 46, 4, 96, 79, 132, 2, 1]
abbrev dktX6_calling_3 : List UInt8 := dkwX6_calling_3 ++ dktX6_calling_4
def dkwX6_calling_2 : List UInt8 := [167, 0, 45, 42, 180, 0, 7, 28, 184, 0, 194, 16, 9, 42, 28, 3, 182, 1, 10, 42, 180, 0, 7, 6]
abbrev dktX6_calling_2 : List UInt8 := dkwX6_calling_2 ++ dktX6_calling_3
def dkwX6_calling_1 : List UInt8 := [27, 128, 79, 3, 61, 28, 42, 180, 0, 7, 4, 46, 162, 0, 62, 42, 28, 182, 1, 40, 153, 0, 6]
abbrev dktX6_calling_1 : List UInt8 := dkwX6_calling_1 ++ dktX6_calling_2
def dkwX6_calling_0 : List UInt8 := [42, 42, 182, 1, 22, 42, 180, 0, 7, 16, 6, 46, 182, 1, 56, 60, 42, 180, 0, 7, 16, 7, 92, 46]
abbrev dktX6_calling_0 : List UInt8 := dkwX6_calling_0 ++ dktX6_calling_1
theorem dksX6_calling_0 : cX6_calling.data.toList.drop 0 = dktX6_calling_0 := by decide +kernel
theorem dksX6_calling_1 : cX6_calling.data.toList.drop 24 = dktX6_calling_1 := dk_seg dksX6_calling_0 24 rfl rfl
theorem dksX6_calling_2 : cX6_calling.data.toList.drop 47 = dktX6_calling_2 := dk_seg dksX6_calling_1 23 rfl rfl
theorem dksX6_calling_3 : cX6_calling.data.toList.drop 71 = dktX6_calling_3 := dk_seg dksX6_calling_2 24 rfl rfl
theorem dksX6_calling_4 : cX6_calling.data.toList.drop 95 = dktX6_calling_4 := dk_seg dksX6_calling_3 24 rfl rfl
theorem dX6_calling_0 : decode cX6_calling 0 = .ok (.aload_n 0, 1) := dk_42 (dk_at dksX6_calling_0 0 rfl rfl)
theorem dX6_calling_1 : decode cX6_calling 1 = .ok (.aload_n 0, 1) := dk_42 (dk_at dksX6_calling_0 1 rfl rfl)
theorem dX6_calling_2 : decode cX6_calling 2 = .ok (.invokevirtual 278, 3) := dk_182 1 22 (dk_at dksX6_calling_0 2 rfl rfl)
theorem dX6_calling_5 : decode cX6_calling 5 = .ok (.aload_n 0, 1) := dk_42 (dk_at dksX6_calling_0 5 rfl rfl)
theorem dX6_calling_6 : decode cX6_calling 6 = .ok (.getfield 7, 3) := dk_180 0 7 (dk_at dksX6_calling_0 6 rfl rfl)
theorem dX6_calling_9 : decode cX6_calling 9 = .ok (.bipush 6, 2) := dk_16 6 (dk_at dksX6_calling_0 9 rfl rfl)
theorem dX6_calling_11 : decode cX6_calling 11 = .ok (.iaload, 1) := dk_46 (dk_at dksX6_calling_0 11 rfl rfl)
theorem dX6_calling_12 : decode cX6_calling 12 = .ok (.invokevirtual 312, 3) := dk_182 1 56 (dk_at dksX6_calling_0 12 rfl rfl)
theorem dX6_calling_15 : decode cX6_calling 15 = .ok (.istore_n 1, 1) := dk_60 (dk_at dksX6_calling_0 15 rfl rfl)
theorem dX6_calling_16 : decode cX6_calling 16 = .ok (.aload_n 0, 1) := dk_42 (dk_at dksX6_calling_0 16 rfl rfl)
theorem dX6_calling_17 : decode cX6_calling 17 = .ok (.getfield 7, 3) := dk_180 0 7 (dk_at dksX6_calling_0 17 rfl rfl)
theorem dX6_calling_20 : decode cX6_calling 20 = .ok (.bipush 7, 2) := dk_16 7 (dk_at dksX6_calling_0 20 rfl rfl)
theorem dX6_calling_22 : decode cX6_calling 22 = .ok (.dup2, 1) := dk_92 (dk_at dksX6_calling_0 22 rfl rfl)
theorem dX6_calling_23 : decode cX6_calling 23 = .ok (.iaload, 1) := dk_46 (dk_at dksX6_calling_0 23 rfl rfl)
theorem dX6_calling_24 : decode cX6_calling 24 = .ok (.iload_n 1, 1) := dk_27 (dk_at dksX6_calling_1 0 rfl rfl)
theorem dX6_calling_25 : decode cX6_calling 25 = .ok (.ior, 1) := dk_128 (dk_at dksX6_calling_1 1 rfl rfl)
theorem dX6_calling_26 : decode cX6_calling 26 = .ok (.iastore, 1) := dk_79 (dk_at dksX6_calling_1 2 rfl rfl)
theorem dX6_calling_27 : decode cX6_calling 27 = .ok (.iconst 0, 1) := dk_3 (dk_at dksX6_calling_1 3 rfl rfl)
theorem dX6_calling_28 : decode cX6_calling 28 = .ok (.istore_n 2, 1) := dk_61 (dk_at dksX6_calling_1 4 rfl rfl)
theorem dX6_calling_29 : decode cX6_calling 29 = .ok (.iload_n 2, 1) := dk_28 (dk_at dksX6_calling_1 5 rfl rfl)
theorem dX6_calling_30 : decode cX6_calling 30 = .ok (.aload_n 0, 1) := dk_42 (dk_at dksX6_calling_1 6 rfl rfl)
theorem dX6_calling_31 : decode cX6_calling 31 = .ok (.getfield 7, 3) := dk_180 0 7 (dk_at dksX6_calling_1 7 rfl rfl)
theorem dX6_calling_34 : decode cX6_calling 34 = .ok (.iconst 1, 1) := dk_4 (dk_at dksX6_calling_1 10 rfl rfl)
theorem dX6_calling_35 : decode cX6_calling 35 = .ok (.iaload, 1) := dk_46 (dk_at dksX6_calling_1 11 rfl rfl)
theorem dX6_calling_36 : decode cX6_calling 36 = .ok (.if_icmp .ge 62, 3) := dk_162 0 62 (dk_at dksX6_calling_1 12 rfl rfl)
theorem dX6_calling_39 : decode cX6_calling 39 = .ok (.aload_n 0, 1) := dk_42 (dk_at dksX6_calling_1 15 rfl rfl)
theorem dX6_calling_40 : decode cX6_calling 40 = .ok (.iload_n 2, 1) := dk_28 (dk_at dksX6_calling_1 16 rfl rfl)
theorem dX6_calling_41 : decode cX6_calling 41 = .ok (.invokevirtual 296, 3) := dk_182 1 40 (dk_at dksX6_calling_1 17 rfl rfl)
theorem dX6_calling_44 : decode cX6_calling 44 = .ok (.ifCond .eq 6, 3) := dk_153 0 6 (dk_at dksX6_calling_1 20 rfl rfl)
theorem dX6_calling_47 : decode cX6_calling 47 = .ok (.goto 45, 3) := dk_167 0 45 (dk_at dksX6_calling_2 0 rfl rfl)
theorem dX6_calling_50 : decode cX6_calling 50 = .ok (.aload_n 0, 1) := dk_42 (dk_at dksX6_calling_2 3 rfl rfl)
theorem dX6_calling_51 : decode cX6_calling 51 = .ok (.getfield 7, 3) := dk_180 0 7 (dk_at dksX6_calling_2 4 rfl rfl)
theorem dX6_calling_54 : decode cX6_calling 54 = .ok (.iload_n 2, 1) := dk_28 (dk_at dksX6_calling_2 7 rfl rfl)
theorem dX6_calling_55 : decode cX6_calling 55 = .ok (.invokestatic 194, 3) := dk_184 0 194 (dk_at dksX6_calling_2 8 rfl rfl)
theorem dX6_calling_58 : decode cX6_calling 58 = .ok (.bipush 9, 2) := dk_16 9 (dk_at dksX6_calling_2 11 rfl rfl)
theorem dX6_calling_60 : decode cX6_calling 60 = .ok (.aload_n 0, 1) := dk_42 (dk_at dksX6_calling_2 13 rfl rfl)
theorem dX6_calling_61 : decode cX6_calling 61 = .ok (.iload_n 2, 1) := dk_28 (dk_at dksX6_calling_2 14 rfl rfl)
theorem dX6_calling_62 : decode cX6_calling 62 = .ok (.iconst 0, 1) := dk_3 (dk_at dksX6_calling_2 15 rfl rfl)
theorem dX6_calling_63 : decode cX6_calling 63 = .ok (.invokevirtual 266, 3) := dk_182 1 10 (dk_at dksX6_calling_2 16 rfl rfl)
theorem dX6_calling_66 : decode cX6_calling 66 = .ok (.aload_n 0, 1) := dk_42 (dk_at dksX6_calling_2 19 rfl rfl)
theorem dX6_calling_67 : decode cX6_calling 67 = .ok (.getfield 7, 3) := dk_180 0 7 (dk_at dksX6_calling_2 20 rfl rfl)
theorem dX6_calling_70 : decode cX6_calling 70 = .ok (.iconst 3, 1) := dk_6 (dk_at dksX6_calling_2 23 rfl rfl)
theorem dX6_calling_71 : decode cX6_calling 71 = .ok (.iaload, 1) := dk_46 (dk_at dksX6_calling_3 0 rfl rfl)
theorem dX6_calling_72 : decode cX6_calling 72 = .ok (.iadd, 1) := dk_96 (dk_at dksX6_calling_3 1 rfl rfl)
theorem dX6_calling_73 : decode cX6_calling 73 = .ok (.invokestatic 133, 3) := dk_184 0 133 (dk_at dksX6_calling_3 2 rfl rfl)
theorem dX6_calling_76 : decode cX6_calling 76 = .ok (.iastore, 1) := dk_79 (dk_at dksX6_calling_3 5 rfl rfl)
theorem dX6_calling_77 : decode cX6_calling 77 = .ok (.aload_n 0, 1) := dk_42 (dk_at dksX6_calling_3 6 rfl rfl)
theorem dX6_calling_78 : decode cX6_calling 78 = .ok (.getfield 7, 3) := dk_180 0 7 (dk_at dksX6_calling_3 7 rfl rfl)
theorem dX6_calling_81 : decode cX6_calling 81 = .ok (.iload_n 2, 1) := dk_28 (dk_at dksX6_calling_3 10 rfl rfl)
theorem dX6_calling_82 : decode cX6_calling 82 = .ok (.invokestatic 194, 3) := dk_184 0 194 (dk_at dksX6_calling_3 11 rfl rfl)
theorem dX6_calling_85 : decode cX6_calling 85 = .ok (.iconst 1, 1) := dk_4 (dk_at dksX6_calling_3 14 rfl rfl)
theorem dX6_calling_86 : decode cX6_calling 86 = .ok (.iadd, 1) := dk_96 (dk_at dksX6_calling_3 15 rfl rfl)
theorem dX6_calling_87 : decode cX6_calling 87 = .ok (.dup2, 1) := dk_92 (dk_at dksX6_calling_3 16 rfl rfl)
theorem dX6_calling_88 : decode cX6_calling 88 = .ok (.iaload, 1) := dk_46 (dk_at dksX6_calling_3 17 rfl rfl)
theorem dX6_calling_89 : decode cX6_calling 89 = .ok (.iconst 1, 1) := dk_4 (dk_at dksX6_calling_3 18 rfl rfl)
theorem dX6_calling_90 : decode cX6_calling 90 = .ok (.iadd, 1) := dk_96 (dk_at dksX6_calling_3 19 rfl rfl)
theorem dX6_calling_91 : decode cX6_calling 91 = .ok (.iastore, 1) := dk_79 (dk_at dksX6_calling_3 20 rfl rfl)
theorem dX6_calling_92 : decode cX6_calling 92 = .ok (.iinc 2 1, 3) := dk_132 2 1 (dk_at dksX6_calling_3 21 rfl rfl)
theorem dX6_calling_95 : decode cX6_calling 95 = .ok (.goto (-66), 3) := dk_167 255 190 (dk_at dksX6_calling_4 0 rfl rfl)
theorem dX6_calling_98 : decode cX6_calling 98 = .ok (.aload_n 0, 1) := dk_42 (dk_at dksX6_calling_4 3 rfl rfl)
theorem dX6_calling_99 : decode cX6_calling 99 = .ok (.getfield 7, 3) := dk_180 0 7 (dk_at dksX6_calling_4 4 rfl rfl)
theorem dX6_calling_102 : decode cX6_calling 102 = .ok (.iconst 5, 1) := dk_8 (dk_at dksX6_calling_4 7 rfl rfl)
theorem dX6_calling_103 : decode cX6_calling 103 = .ok (.dup2, 1) := dk_92 (dk_at dksX6_calling_4 8 rfl rfl)
theorem dX6_calling_104 : decode cX6_calling 104 = .ok (.iaload, 1) := dk_46 (dk_at dksX6_calling_4 9 rfl rfl)
theorem dX6_calling_105 : decode cX6_calling 105 = .ok (.iconst 1, 1) := dk_4 (dk_at dksX6_calling_4 10 rfl rfl)
theorem dX6_calling_106 : decode cX6_calling 106 = .ok (.iadd, 1) := dk_96 (dk_at dksX6_calling_4 11 rfl rfl)
theorem dX6_calling_107 : decode cX6_calling 107 = .ok (.iastore, 1) := dk_79 (dk_at dksX6_calling_4 12 rfl rfl)
theorem dX6_calling_108 : decode cX6_calling 108 = .ok (.iload_n 1, 1) := dk_27 (dk_at dksX6_calling_4 13 rfl rfl)
theorem dX6_calling_109 : decode cX6_calling 109 = .ok (.ireturn, 1) := dk_172 (dk_at dksX6_calling_4 14 rfl rfl)
abbrev cX6_outOf : ByteArray := prog_15_method_75_code
def yX6_outOf : MethodName := ⟨RX6, "outOf", "(II)I"⟩
def dkwX6_outOf_0 : List UInt8 := [42, 27, 28, 3, 42, 180, 0, 7, 5, 46, 182, 1, 52, 172]
abbrev dktX6_outOf_0 : List UInt8 := dkwX6_outOf_0 ++ []
theorem dksX6_outOf_0 : cX6_outOf.data.toList.drop 0 = dktX6_outOf_0 := by decide +kernel
theorem dX6_outOf_0 : decode cX6_outOf 0 = .ok (.aload_n 0, 1) := dk_42 (dk_at dksX6_outOf_0 0 rfl rfl)
theorem dX6_outOf_1 : decode cX6_outOf 1 = .ok (.iload_n 1, 1) := dk_27 (dk_at dksX6_outOf_0 1 rfl rfl)
theorem dX6_outOf_2 : decode cX6_outOf 2 = .ok (.iload_n 2, 1) := dk_28 (dk_at dksX6_outOf_0 2 rfl rfl)
theorem dX6_outOf_3 : decode cX6_outOf 3 = .ok (.iconst 0, 1) := dk_3 (dk_at dksX6_outOf_0 3 rfl rfl)
theorem dX6_outOf_4 : decode cX6_outOf 4 = .ok (.aload_n 0, 1) := dk_42 (dk_at dksX6_outOf_0 4 rfl rfl)
theorem dX6_outOf_5 : decode cX6_outOf 5 = .ok (.getfield 7, 3) := dk_180 0 7 (dk_at dksX6_outOf_0 5 rfl rfl)
theorem dX6_outOf_8 : decode cX6_outOf 8 = .ok (.iconst 2, 1) := dk_5 (dk_at dksX6_outOf_0 8 rfl rfl)
theorem dX6_outOf_9 : decode cX6_outOf 9 = .ok (.iaload, 1) := dk_46 (dk_at dksX6_outOf_0 9 rfl rfl)
theorem dX6_outOf_10 : decode cX6_outOf 10 = .ok (.invokevirtual 308, 3) := dk_182 1 52 (dk_at dksX6_outOf_0 10 rfl rfl)
theorem dX6_outOf_13 : decode cX6_outOf 13 = .ok (.ireturn, 1) := dk_172 (dk_at dksX6_outOf_0 13 rfl rfl)
abbrev cX6_risingOf : ByteArray := prog_15_method_74_code
def yX6_risingOf : MethodName := ⟨RX6, "risingOf", "(IIII)I"⟩
def dkwX6_risingOf_7 : List UInt8 := [21, 6, 181, 1, 46, 132, 6, 1, 167, 255, 120, 21, 5, 172]
abbrev dktX6_risingOf_7 : List UInt8 := dkwX6_risingOf_7 ++ []
def dkwX6_risingOf_6 : List UInt8 := [42, 180, 0, 47, 21, 8, 21, 6, 79, 132, 8, 1, 167, 255, 226, 21, 5, 21, 7, 128, 54, 5, 42]
abbrev dktX6_risingOf_6 : List UInt8 := dkwX6_risingOf_6 ++ dktX6_risingOf_7
def dkwX6_risingOf_5 : List UInt8 := [21, 5, 172, 3, 54, 8, 21, 8, 16, 8, 162, 0, 29, 42, 21, 7, 21, 8, 182, 1, 7, 153, 0, 12]
abbrev dktX6_risingOf_5 : List UInt8 := dkwX6_risingOf_5 ++ dktX6_risingOf_6
def dkwX6_risingOf_4 : List UInt8 := [161, 0, 12, 21, 7, 4, 21, 8, 120, 128, 54, 7, 132, 8, 1, 167, 255, 196, 21, 7, 154, 0, 6]
abbrev dktX6_risingOf_4 : List UInt8 := dkwX6_risingOf_4 ++ dktX6_risingOf_5
def dkwX6_risingOf_3 : List UInt8 := [153, 0, 34, 42, 21, 8, 182, 1, 13, 21, 5, 126, 184, 1, 49, 42, 21, 8, 28, 182, 1, 37]
abbrev dktX6_risingOf_3 : List UInt8 := dkwX6_risingOf_3 ++ dktX6_risingOf_4
def dkwX6_risingOf_2 : List UInt8 := [21, 8, 42, 180, 0, 7, 4, 46, 162, 0, 55, 42, 27, 21, 5, 2, 130, 126, 21, 8, 182, 1, 7]
abbrev dktX6_risingOf_2 : List UInt8 := dkwX6_risingOf_2 ++ dktX6_risingOf_3
def dkwX6_risingOf_1 : List UInt8 := [3, 79, 132, 6, 1, 167, 255, 238, 4, 54, 6, 21, 6, 21, 4, 163, 0, 135, 3, 54, 7, 3, 54, 8]
abbrev dktX6_risingOf_1 : List UInt8 := dkwX6_risingOf_1 ++ dktX6_risingOf_2
def dkwX6_risingOf_0 : List UInt8 := [29, 54, 5, 42, 3, 181, 1, 46, 3, 54, 6, 21, 6, 16, 8, 162, 0, 17, 42, 180, 0, 47, 21, 6]
abbrev dktX6_risingOf_0 : List UInt8 := dkwX6_risingOf_0 ++ dktX6_risingOf_1
theorem dksX6_risingOf_0 : cX6_risingOf.data.toList.drop 0 = dktX6_risingOf_0 := by decide +kernel
theorem dksX6_risingOf_1 : cX6_risingOf.data.toList.drop 24 = dktX6_risingOf_1 := dk_seg dksX6_risingOf_0 24 rfl rfl
theorem dksX6_risingOf_2 : cX6_risingOf.data.toList.drop 48 = dktX6_risingOf_2 := dk_seg dksX6_risingOf_1 24 rfl rfl
theorem dksX6_risingOf_3 : cX6_risingOf.data.toList.drop 71 = dktX6_risingOf_3 := dk_seg dksX6_risingOf_2 23 rfl rfl
theorem dksX6_risingOf_4 : cX6_risingOf.data.toList.drop 93 = dktX6_risingOf_4 := dk_seg dksX6_risingOf_3 22 rfl rfl
theorem dksX6_risingOf_5 : cX6_risingOf.data.toList.drop 116 = dktX6_risingOf_5 := dk_seg dksX6_risingOf_4 23 rfl rfl
theorem dksX6_risingOf_6 : cX6_risingOf.data.toList.drop 140 = dktX6_risingOf_6 := dk_seg dksX6_risingOf_5 24 rfl rfl
theorem dksX6_risingOf_7 : cX6_risingOf.data.toList.drop 163 = dktX6_risingOf_7 := dk_seg dksX6_risingOf_6 23 rfl rfl
theorem dX6_risingOf_0 : decode cX6_risingOf 0 = .ok (.iload_n 3, 1) := dk_29 (dk_at dksX6_risingOf_0 0 rfl rfl)
theorem dX6_risingOf_1 : decode cX6_risingOf 1 = .ok (.istore 5, 2) := dk_54 5 (dk_at dksX6_risingOf_0 1 rfl rfl)
theorem dX6_risingOf_3 : decode cX6_risingOf 3 = .ok (.aload_n 0, 1) := dk_42 (dk_at dksX6_risingOf_0 3 rfl rfl)
theorem dX6_risingOf_4 : decode cX6_risingOf 4 = .ok (.iconst 0, 1) := dk_3 (dk_at dksX6_risingOf_0 4 rfl rfl)
theorem dX6_risingOf_5 : decode cX6_risingOf 5 = .ok (.putfield 302, 3) := dk_181 1 46 (dk_at dksX6_risingOf_0 5 rfl rfl)
theorem dX6_risingOf_8 : decode cX6_risingOf 8 = .ok (.iconst 0, 1) := dk_3 (dk_at dksX6_risingOf_0 8 rfl rfl)
theorem dX6_risingOf_9 : decode cX6_risingOf 9 = .ok (.istore 6, 2) := dk_54 6 (dk_at dksX6_risingOf_0 9 rfl rfl)
theorem dX6_risingOf_11 : decode cX6_risingOf 11 = .ok (.iload 6, 2) := dk_21 6 (dk_at dksX6_risingOf_0 11 rfl rfl)
theorem dX6_risingOf_13 : decode cX6_risingOf 13 = .ok (.bipush 8, 2) := dk_16 8 (dk_at dksX6_risingOf_0 13 rfl rfl)
theorem dX6_risingOf_15 : decode cX6_risingOf 15 = .ok (.if_icmp .ge 17, 3) := dk_162 0 17 (dk_at dksX6_risingOf_0 15 rfl rfl)
theorem dX6_risingOf_18 : decode cX6_risingOf 18 = .ok (.aload_n 0, 1) := dk_42 (dk_at dksX6_risingOf_0 18 rfl rfl)
theorem dX6_risingOf_19 : decode cX6_risingOf 19 = .ok (.getfield 47, 3) := dk_180 0 47 (dk_at dksX6_risingOf_0 19 rfl rfl)
theorem dX6_risingOf_22 : decode cX6_risingOf 22 = .ok (.iload 6, 2) := dk_21 6 (dk_at dksX6_risingOf_0 22 rfl rfl)
theorem dX6_risingOf_24 : decode cX6_risingOf 24 = .ok (.iconst 0, 1) := dk_3 (dk_at dksX6_risingOf_1 0 rfl rfl)
theorem dX6_risingOf_25 : decode cX6_risingOf 25 = .ok (.iastore, 1) := dk_79 (dk_at dksX6_risingOf_1 1 rfl rfl)
theorem dX6_risingOf_26 : decode cX6_risingOf 26 = .ok (.iinc 6 1, 3) := dk_132 6 1 (dk_at dksX6_risingOf_1 2 rfl rfl)
theorem dX6_risingOf_29 : decode cX6_risingOf 29 = .ok (.goto (-18), 3) := dk_167 255 238 (dk_at dksX6_risingOf_1 5 rfl rfl)
theorem dX6_risingOf_32 : decode cX6_risingOf 32 = .ok (.iconst 1, 1) := dk_4 (dk_at dksX6_risingOf_1 8 rfl rfl)
theorem dX6_risingOf_33 : decode cX6_risingOf 33 = .ok (.istore 6, 2) := dk_54 6 (dk_at dksX6_risingOf_1 9 rfl rfl)
theorem dX6_risingOf_35 : decode cX6_risingOf 35 = .ok (.iload 6, 2) := dk_21 6 (dk_at dksX6_risingOf_1 11 rfl rfl)
theorem dX6_risingOf_37 : decode cX6_risingOf 37 = .ok (.iload 4, 2) := dk_21 4 (dk_at dksX6_risingOf_1 13 rfl rfl)
theorem dX6_risingOf_39 : decode cX6_risingOf 39 = .ok (.if_icmp .gt 135, 3) := dk_163 0 135 (dk_at dksX6_risingOf_1 15 rfl rfl)
theorem dX6_risingOf_42 : decode cX6_risingOf 42 = .ok (.iconst 0, 1) := dk_3 (dk_at dksX6_risingOf_1 18 rfl rfl)
theorem dX6_risingOf_43 : decode cX6_risingOf 43 = .ok (.istore 7, 2) := dk_54 7 (dk_at dksX6_risingOf_1 19 rfl rfl)
theorem dX6_risingOf_45 : decode cX6_risingOf 45 = .ok (.iconst 0, 1) := dk_3 (dk_at dksX6_risingOf_1 21 rfl rfl)
theorem dX6_risingOf_46 : decode cX6_risingOf 46 = .ok (.istore 8, 2) := dk_54 8 (dk_at dksX6_risingOf_1 22 rfl rfl)
theorem dX6_risingOf_48 : decode cX6_risingOf 48 = .ok (.iload 8, 2) := dk_21 8 (dk_at dksX6_risingOf_2 0 rfl rfl)
theorem dX6_risingOf_50 : decode cX6_risingOf 50 = .ok (.aload_n 0, 1) := dk_42 (dk_at dksX6_risingOf_2 2 rfl rfl)
theorem dX6_risingOf_51 : decode cX6_risingOf 51 = .ok (.getfield 7, 3) := dk_180 0 7 (dk_at dksX6_risingOf_2 3 rfl rfl)
theorem dX6_risingOf_54 : decode cX6_risingOf 54 = .ok (.iconst 1, 1) := dk_4 (dk_at dksX6_risingOf_2 6 rfl rfl)
theorem dX6_risingOf_55 : decode cX6_risingOf 55 = .ok (.iaload, 1) := dk_46 (dk_at dksX6_risingOf_2 7 rfl rfl)
theorem dX6_risingOf_56 : decode cX6_risingOf 56 = .ok (.if_icmp .ge 55, 3) := dk_162 0 55 (dk_at dksX6_risingOf_2 8 rfl rfl)
theorem dX6_risingOf_59 : decode cX6_risingOf 59 = .ok (.aload_n 0, 1) := dk_42 (dk_at dksX6_risingOf_2 11 rfl rfl)
theorem dX6_risingOf_60 : decode cX6_risingOf 60 = .ok (.iload_n 1, 1) := dk_27 (dk_at dksX6_risingOf_2 12 rfl rfl)
theorem dX6_risingOf_61 : decode cX6_risingOf 61 = .ok (.iload 5, 2) := dk_21 5 (dk_at dksX6_risingOf_2 13 rfl rfl)
theorem dX6_risingOf_63 : decode cX6_risingOf 63 = .ok (.iconst (-1), 1) := dk_2 (dk_at dksX6_risingOf_2 15 rfl rfl)
theorem dX6_risingOf_64 : decode cX6_risingOf 64 = .ok (.ixor, 1) := dk_130 (dk_at dksX6_risingOf_2 16 rfl rfl)
theorem dX6_risingOf_65 : decode cX6_risingOf 65 = .ok (.iand, 1) := dk_126 (dk_at dksX6_risingOf_2 17 rfl rfl)
theorem dX6_risingOf_66 : decode cX6_risingOf 66 = .ok (.iload 8, 2) := dk_21 8 (dk_at dksX6_risingOf_2 18 rfl rfl)
theorem dX6_risingOf_68 : decode cX6_risingOf 68 = .ok (.invokevirtual 263, 3) := dk_182 1 7 (dk_at dksX6_risingOf_2 20 rfl rfl)
theorem dX6_risingOf_71 : decode cX6_risingOf 71 = .ok (.ifCond .eq 34, 3) := dk_153 0 34 (dk_at dksX6_risingOf_3 0 rfl rfl)
theorem dX6_risingOf_74 : decode cX6_risingOf 74 = .ok (.aload_n 0, 1) := dk_42 (dk_at dksX6_risingOf_3 3 rfl rfl)
theorem dX6_risingOf_75 : decode cX6_risingOf 75 = .ok (.iload 8, 2) := dk_21 8 (dk_at dksX6_risingOf_3 4 rfl rfl)
theorem dX6_risingOf_77 : decode cX6_risingOf 77 = .ok (.invokevirtual 269, 3) := dk_182 1 13 (dk_at dksX6_risingOf_3 6 rfl rfl)
theorem dX6_risingOf_80 : decode cX6_risingOf 80 = .ok (.iload 5, 2) := dk_21 5 (dk_at dksX6_risingOf_3 9 rfl rfl)
theorem dX6_risingOf_82 : decode cX6_risingOf 82 = .ok (.iand, 1) := dk_126 (dk_at dksX6_risingOf_3 11 rfl rfl)
theorem dX6_risingOf_83 : decode cX6_risingOf 83 = .ok (.invokestatic 305, 3) := dk_184 1 49 (dk_at dksX6_risingOf_3 12 rfl rfl)
theorem dX6_risingOf_86 : decode cX6_risingOf 86 = .ok (.aload_n 0, 1) := dk_42 (dk_at dksX6_risingOf_3 15 rfl rfl)
theorem dX6_risingOf_87 : decode cX6_risingOf 87 = .ok (.iload 8, 2) := dk_21 8 (dk_at dksX6_risingOf_3 16 rfl rfl)
theorem dX6_risingOf_89 : decode cX6_risingOf 89 = .ok (.iload_n 2, 1) := dk_28 (dk_at dksX6_risingOf_3 18 rfl rfl)
theorem dX6_risingOf_90 : decode cX6_risingOf 90 = .ok (.invokevirtual 293, 3) := dk_182 1 37 (dk_at dksX6_risingOf_3 19 rfl rfl)
theorem dX6_risingOf_93 : decode cX6_risingOf 93 = .ok (.if_icmp .lt 12, 3) := dk_161 0 12 (dk_at dksX6_risingOf_4 0 rfl rfl)
theorem dX6_risingOf_96 : decode cX6_risingOf 96 = .ok (.iload 7, 2) := dk_21 7 (dk_at dksX6_risingOf_4 3 rfl rfl)
theorem dX6_risingOf_98 : decode cX6_risingOf 98 = .ok (.iconst 1, 1) := dk_4 (dk_at dksX6_risingOf_4 5 rfl rfl)
theorem dX6_risingOf_99 : decode cX6_risingOf 99 = .ok (.iload 8, 2) := dk_21 8 (dk_at dksX6_risingOf_4 6 rfl rfl)
theorem dX6_risingOf_101 : decode cX6_risingOf 101 = .ok (.ishl, 1) := dk_120 (dk_at dksX6_risingOf_4 8 rfl rfl)
theorem dX6_risingOf_102 : decode cX6_risingOf 102 = .ok (.ior, 1) := dk_128 (dk_at dksX6_risingOf_4 9 rfl rfl)
theorem dX6_risingOf_103 : decode cX6_risingOf 103 = .ok (.istore 7, 2) := dk_54 7 (dk_at dksX6_risingOf_4 10 rfl rfl)
theorem dX6_risingOf_105 : decode cX6_risingOf 105 = .ok (.iinc 8 1, 3) := dk_132 8 1 (dk_at dksX6_risingOf_4 12 rfl rfl)
theorem dX6_risingOf_108 : decode cX6_risingOf 108 = .ok (.goto (-60), 3) := dk_167 255 196 (dk_at dksX6_risingOf_4 15 rfl rfl)
theorem dX6_risingOf_111 : decode cX6_risingOf 111 = .ok (.iload 7, 2) := dk_21 7 (dk_at dksX6_risingOf_4 18 rfl rfl)
theorem dX6_risingOf_113 : decode cX6_risingOf 113 = .ok (.ifCond .ne 6, 3) := dk_154 0 6 (dk_at dksX6_risingOf_4 20 rfl rfl)
theorem dX6_risingOf_116 : decode cX6_risingOf 116 = .ok (.iload 5, 2) := dk_21 5 (dk_at dksX6_risingOf_5 0 rfl rfl)
theorem dX6_risingOf_118 : decode cX6_risingOf 118 = .ok (.ireturn, 1) := dk_172 (dk_at dksX6_risingOf_5 2 rfl rfl)
theorem dX6_risingOf_119 : decode cX6_risingOf 119 = .ok (.iconst 0, 1) := dk_3 (dk_at dksX6_risingOf_5 3 rfl rfl)
theorem dX6_risingOf_120 : decode cX6_risingOf 120 = .ok (.istore 8, 2) := dk_54 8 (dk_at dksX6_risingOf_5 4 rfl rfl)
theorem dX6_risingOf_122 : decode cX6_risingOf 122 = .ok (.iload 8, 2) := dk_21 8 (dk_at dksX6_risingOf_5 6 rfl rfl)
theorem dX6_risingOf_124 : decode cX6_risingOf 124 = .ok (.bipush 8, 2) := dk_16 8 (dk_at dksX6_risingOf_5 8 rfl rfl)
theorem dX6_risingOf_126 : decode cX6_risingOf 126 = .ok (.if_icmp .ge 29, 3) := dk_162 0 29 (dk_at dksX6_risingOf_5 10 rfl rfl)
theorem dX6_risingOf_129 : decode cX6_risingOf 129 = .ok (.aload_n 0, 1) := dk_42 (dk_at dksX6_risingOf_5 13 rfl rfl)
theorem dX6_risingOf_130 : decode cX6_risingOf 130 = .ok (.iload 7, 2) := dk_21 7 (dk_at dksX6_risingOf_5 14 rfl rfl)
theorem dX6_risingOf_132 : decode cX6_risingOf 132 = .ok (.iload 8, 2) := dk_21 8 (dk_at dksX6_risingOf_5 16 rfl rfl)
theorem dX6_risingOf_134 : decode cX6_risingOf 134 = .ok (.invokevirtual 263, 3) := dk_182 1 7 (dk_at dksX6_risingOf_5 18 rfl rfl)
theorem dX6_risingOf_137 : decode cX6_risingOf 137 = .ok (.ifCond .eq 12, 3) := dk_153 0 12 (dk_at dksX6_risingOf_5 21 rfl rfl)
theorem dX6_risingOf_140 : decode cX6_risingOf 140 = .ok (.aload_n 0, 1) := dk_42 (dk_at dksX6_risingOf_6 0 rfl rfl)
theorem dX6_risingOf_141 : decode cX6_risingOf 141 = .ok (.getfield 47, 3) := dk_180 0 47 (dk_at dksX6_risingOf_6 1 rfl rfl)
theorem dX6_risingOf_144 : decode cX6_risingOf 144 = .ok (.iload 8, 2) := dk_21 8 (dk_at dksX6_risingOf_6 4 rfl rfl)
theorem dX6_risingOf_146 : decode cX6_risingOf 146 = .ok (.iload 6, 2) := dk_21 6 (dk_at dksX6_risingOf_6 6 rfl rfl)
theorem dX6_risingOf_148 : decode cX6_risingOf 148 = .ok (.iastore, 1) := dk_79 (dk_at dksX6_risingOf_6 8 rfl rfl)
theorem dX6_risingOf_149 : decode cX6_risingOf 149 = .ok (.iinc 8 1, 3) := dk_132 8 1 (dk_at dksX6_risingOf_6 9 rfl rfl)
theorem dX6_risingOf_152 : decode cX6_risingOf 152 = .ok (.goto (-30), 3) := dk_167 255 226 (dk_at dksX6_risingOf_6 12 rfl rfl)
theorem dX6_risingOf_155 : decode cX6_risingOf 155 = .ok (.iload 5, 2) := dk_21 5 (dk_at dksX6_risingOf_6 15 rfl rfl)
theorem dX6_risingOf_157 : decode cX6_risingOf 157 = .ok (.iload 7, 2) := dk_21 7 (dk_at dksX6_risingOf_6 17 rfl rfl)
theorem dX6_risingOf_159 : decode cX6_risingOf 159 = .ok (.ior, 1) := dk_128 (dk_at dksX6_risingOf_6 19 rfl rfl)
theorem dX6_risingOf_160 : decode cX6_risingOf 160 = .ok (.istore 5, 2) := dk_54 5 (dk_at dksX6_risingOf_6 20 rfl rfl)
theorem dX6_risingOf_162 : decode cX6_risingOf 162 = .ok (.aload_n 0, 1) := dk_42 (dk_at dksX6_risingOf_6 22 rfl rfl)
theorem dX6_risingOf_163 : decode cX6_risingOf 163 = .ok (.iload 6, 2) := dk_21 6 (dk_at dksX6_risingOf_7 0 rfl rfl)
theorem dX6_risingOf_165 : decode cX6_risingOf 165 = .ok (.putfield 302, 3) := dk_181 1 46 (dk_at dksX6_risingOf_7 2 rfl rfl)
theorem dX6_risingOf_168 : decode cX6_risingOf 168 = .ok (.iinc 6 1, 3) := dk_132 6 1 (dk_at dksX6_risingOf_7 5 rfl rfl)
theorem dX6_risingOf_171 : decode cX6_risingOf 171 = .ok (.goto (-136), 3) := dk_167 255 120 (dk_at dksX6_risingOf_7 8 rfl rfl)
theorem dX6_risingOf_174 : decode cX6_risingOf 174 = .ok (.iload 5, 2) := dk_21 5 (dk_at dksX6_risingOf_7 11 rfl rfl)
theorem dX6_risingOf_176 : decode cX6_risingOf 176 = .ok (.ireturn, 1) := dk_172 (dk_at dksX6_risingOf_7 13 rfl rfl)
abbrev cX6_bits : ByteArray := prog_15_method_61_code
def yX6_bits : MethodName := ⟨RX6, "bits", "(I)I"⟩
def dkwX6_bits_0 : List UInt8 := [3, 60, 26, 61, 28, 153, 0, 15, 132, 1, 1, 28, 28, 4, 100, 126, 61, 167, 255, 243, 27, 172]
abbrev dktX6_bits_0 : List UInt8 := dkwX6_bits_0 ++ []
theorem dksX6_bits_0 : cX6_bits.data.toList.drop 0 = dktX6_bits_0 := by decide +kernel
theorem dX6_bits_0 : decode cX6_bits 0 = .ok (.iconst 0, 1) := dk_3 (dk_at dksX6_bits_0 0 rfl rfl)
theorem dX6_bits_1 : decode cX6_bits 1 = .ok (.istore_n 1, 1) := dk_60 (dk_at dksX6_bits_0 1 rfl rfl)
theorem dX6_bits_2 : decode cX6_bits 2 = .ok (.iload_n 0, 1) := dk_26 (dk_at dksX6_bits_0 2 rfl rfl)
theorem dX6_bits_3 : decode cX6_bits 3 = .ok (.istore_n 2, 1) := dk_61 (dk_at dksX6_bits_0 3 rfl rfl)
theorem dX6_bits_4 : decode cX6_bits 4 = .ok (.iload_n 2, 1) := dk_28 (dk_at dksX6_bits_0 4 rfl rfl)
theorem dX6_bits_5 : decode cX6_bits 5 = .ok (.ifCond .eq 15, 3) := dk_153 0 15 (dk_at dksX6_bits_0 5 rfl rfl)
theorem dX6_bits_8 : decode cX6_bits 8 = .ok (.iinc 1 1, 3) := dk_132 1 1 (dk_at dksX6_bits_0 8 rfl rfl)
theorem dX6_bits_11 : decode cX6_bits 11 = .ok (.iload_n 2, 1) := dk_28 (dk_at dksX6_bits_0 11 rfl rfl)
theorem dX6_bits_12 : decode cX6_bits 12 = .ok (.iload_n 2, 1) := dk_28 (dk_at dksX6_bits_0 12 rfl rfl)
theorem dX6_bits_13 : decode cX6_bits 13 = .ok (.iconst 1, 1) := dk_4 (dk_at dksX6_bits_0 13 rfl rfl)
theorem dX6_bits_14 : decode cX6_bits 14 = .ok (.isub, 1) := dk_100 (dk_at dksX6_bits_0 14 rfl rfl)
theorem dX6_bits_15 : decode cX6_bits 15 = .ok (.iand, 1) := dk_126 (dk_at dksX6_bits_0 15 rfl rfl)
theorem dX6_bits_16 : decode cX6_bits 16 = .ok (.istore_n 2, 1) := dk_61 (dk_at dksX6_bits_0 16 rfl rfl)
theorem dX6_bits_17 : decode cX6_bits 17 = .ok (.goto (-13), 3) := dk_167 255 243 (dk_at dksX6_bits_0 17 rfl rfl)
theorem dX6_bits_20 : decode cX6_bits 20 = .ok (.iload_n 1, 1) := dk_27 (dk_at dksX6_bits_0 20 rfl rfl)
theorem dX6_bits_21 : decode cX6_bits 21 = .ok (.ireturn, 1) := dk_172 (dk_at dksX6_bits_0 21 rfl rfl)
abbrev cX6_show : ByteArray := prog_15_method_80_code
def yX6_show : MethodName := ⟨RX6, "show", "(IZ)Z"⟩
def dkwX6_show_1 : List UInt8 := [167, 0, 4, 3, 182, 1, 62, 153, 0, 7, 3, 167, 0, 5, 16, 7, 182, 0, 85, 172]
abbrev dktX6_show_1 : List UInt8 := dkwX6_show_1 ++ []
def dkwX6_show_0 : List UInt8 := [42, 27, 182, 1, 28, 154, 0, 9, 42, 4, 182, 0, 85, 172, 42, 42, 27, 28, 153, 0, 7, 4]
abbrev dktX6_show_0 : List UInt8 := dkwX6_show_0 ++ dktX6_show_1
theorem dksX6_show_0 : cX6_show.data.toList.drop 0 = dktX6_show_0 := by decide +kernel
theorem dksX6_show_1 : cX6_show.data.toList.drop 22 = dktX6_show_1 := dk_seg dksX6_show_0 22 rfl rfl
theorem dX6_show_0 : decode cX6_show 0 = .ok (.aload_n 0, 1) := dk_42 (dk_at dksX6_show_0 0 rfl rfl)
theorem dX6_show_1 : decode cX6_show 1 = .ok (.iload_n 1, 1) := dk_27 (dk_at dksX6_show_0 1 rfl rfl)
theorem dX6_show_2 : decode cX6_show 2 = .ok (.invokevirtual 284, 3) := dk_182 1 28 (dk_at dksX6_show_0 2 rfl rfl)
theorem dX6_show_5 : decode cX6_show 5 = .ok (.ifCond .ne 9, 3) := dk_154 0 9 (dk_at dksX6_show_0 5 rfl rfl)
theorem dX6_show_8 : decode cX6_show 8 = .ok (.aload_n 0, 1) := dk_42 (dk_at dksX6_show_0 8 rfl rfl)
theorem dX6_show_9 : decode cX6_show 9 = .ok (.iconst 1, 1) := dk_4 (dk_at dksX6_show_0 9 rfl rfl)
theorem dX6_show_10 : decode cX6_show 10 = .ok (.invokevirtual 85, 3) := dk_182 0 85 (dk_at dksX6_show_0 10 rfl rfl)
theorem dX6_show_13 : decode cX6_show 13 = .ok (.ireturn, 1) := dk_172 (dk_at dksX6_show_0 13 rfl rfl)
theorem dX6_show_14 : decode cX6_show 14 = .ok (.aload_n 0, 1) := dk_42 (dk_at dksX6_show_0 14 rfl rfl)
theorem dX6_show_15 : decode cX6_show 15 = .ok (.aload_n 0, 1) := dk_42 (dk_at dksX6_show_0 15 rfl rfl)
theorem dX6_show_16 : decode cX6_show 16 = .ok (.iload_n 1, 1) := dk_27 (dk_at dksX6_show_0 16 rfl rfl)
theorem dX6_show_17 : decode cX6_show 17 = .ok (.iload_n 2, 1) := dk_28 (dk_at dksX6_show_0 17 rfl rfl)
theorem dX6_show_18 : decode cX6_show 18 = .ok (.ifCond .eq 7, 3) := dk_153 0 7 (dk_at dksX6_show_0 18 rfl rfl)
theorem dX6_show_21 : decode cX6_show 21 = .ok (.iconst 1, 1) := dk_4 (dk_at dksX6_show_0 21 rfl rfl)
theorem dX6_show_22 : decode cX6_show 22 = .ok (.goto 4, 3) := dk_167 0 4 (dk_at dksX6_show_1 0 rfl rfl)
theorem dX6_show_25 : decode cX6_show 25 = .ok (.iconst 0, 1) := dk_3 (dk_at dksX6_show_1 3 rfl rfl)
theorem dX6_show_26 : decode cX6_show 26 = .ok (.invokevirtual 318, 3) := dk_182 1 62 (dk_at dksX6_show_1 4 rfl rfl)
theorem dX6_show_29 : decode cX6_show 29 = .ok (.ifCond .eq 7, 3) := dk_153 0 7 (dk_at dksX6_show_1 7 rfl rfl)
theorem dX6_show_32 : decode cX6_show 32 = .ok (.iconst 0, 1) := dk_3 (dk_at dksX6_show_1 10 rfl rfl)
theorem dX6_show_33 : decode cX6_show 33 = .ok (.goto 5, 3) := dk_167 0 5 (dk_at dksX6_show_1 11 rfl rfl)
theorem dX6_show_36 : decode cX6_show 36 = .ok (.bipush 7, 2) := dk_16 7 (dk_at dksX6_show_1 14 rfl rfl)
theorem dX6_show_38 : decode cX6_show 38 = .ok (.invokevirtual 85, 3) := dk_182 0 85 (dk_at dksX6_show_1 16 rfl rfl)
theorem dX6_show_41 : decode cX6_show 41 = .ok (.ireturn, 1) := dk_172 (dk_at dksX6_show_1 19 rfl rfl)
abbrev cX6_shows : ByteArray := prog_15_method_79_code
def yX6_shows : MethodName := ⟨RX6, "shows", "(II)Z"⟩
def dkwX6_shows_1 : List UInt8 := [46, 4, 27, 120, 130, 79, 4, 172]
abbrev dktX6_shows_1 : List UInt8 := dkwX6_shows_1 ++ []
def dkwX6_shows_0 : List UInt8 := [42, 180, 0, 7, 16, 6, 46, 27, 122, 4, 126, 28, 160, 0, 5, 3, 172, 42, 180, 0, 7, 16, 6, 92]
abbrev dktX6_shows_0 : List UInt8 := dkwX6_shows_0 ++ dktX6_shows_1
theorem dksX6_shows_0 : cX6_shows.data.toList.drop 0 = dktX6_shows_0 := by decide +kernel
theorem dksX6_shows_1 : cX6_shows.data.toList.drop 24 = dktX6_shows_1 := dk_seg dksX6_shows_0 24 rfl rfl
theorem dX6_shows_0 : decode cX6_shows 0 = .ok (.aload_n 0, 1) := dk_42 (dk_at dksX6_shows_0 0 rfl rfl)
theorem dX6_shows_1 : decode cX6_shows 1 = .ok (.getfield 7, 3) := dk_180 0 7 (dk_at dksX6_shows_0 1 rfl rfl)
theorem dX6_shows_4 : decode cX6_shows 4 = .ok (.bipush 6, 2) := dk_16 6 (dk_at dksX6_shows_0 4 rfl rfl)
theorem dX6_shows_6 : decode cX6_shows 6 = .ok (.iaload, 1) := dk_46 (dk_at dksX6_shows_0 6 rfl rfl)
theorem dX6_shows_7 : decode cX6_shows 7 = .ok (.iload_n 1, 1) := dk_27 (dk_at dksX6_shows_0 7 rfl rfl)
theorem dX6_shows_8 : decode cX6_shows 8 = .ok (.ishr, 1) := dk_122 (dk_at dksX6_shows_0 8 rfl rfl)
theorem dX6_shows_9 : decode cX6_shows 9 = .ok (.iconst 1, 1) := dk_4 (dk_at dksX6_shows_0 9 rfl rfl)
theorem dX6_shows_10 : decode cX6_shows 10 = .ok (.iand, 1) := dk_126 (dk_at dksX6_shows_0 10 rfl rfl)
theorem dX6_shows_11 : decode cX6_shows 11 = .ok (.iload_n 2, 1) := dk_28 (dk_at dksX6_shows_0 11 rfl rfl)
theorem dX6_shows_12 : decode cX6_shows 12 = .ok (.if_icmp .ne 5, 3) := dk_160 0 5 (dk_at dksX6_shows_0 12 rfl rfl)
theorem dX6_shows_15 : decode cX6_shows 15 = .ok (.iconst 0, 1) := dk_3 (dk_at dksX6_shows_0 15 rfl rfl)
theorem dX6_shows_16 : decode cX6_shows 16 = .ok (.ireturn, 1) := dk_172 (dk_at dksX6_shows_0 16 rfl rfl)
theorem dX6_shows_17 : decode cX6_shows 17 = .ok (.aload_n 0, 1) := dk_42 (dk_at dksX6_shows_0 17 rfl rfl)
theorem dX6_shows_18 : decode cX6_shows 18 = .ok (.getfield 7, 3) := dk_180 0 7 (dk_at dksX6_shows_0 18 rfl rfl)
theorem dX6_shows_21 : decode cX6_shows 21 = .ok (.bipush 6, 2) := dk_16 6 (dk_at dksX6_shows_0 21 rfl rfl)
theorem dX6_shows_23 : decode cX6_shows 23 = .ok (.dup2, 1) := dk_92 (dk_at dksX6_shows_0 23 rfl rfl)
theorem dX6_shows_24 : decode cX6_shows 24 = .ok (.iaload, 1) := dk_46 (dk_at dksX6_shows_1 0 rfl rfl)
theorem dX6_shows_25 : decode cX6_shows 25 = .ok (.iconst 1, 1) := dk_4 (dk_at dksX6_shows_1 1 rfl rfl)
theorem dX6_shows_26 : decode cX6_shows 26 = .ok (.iload_n 1, 1) := dk_27 (dk_at dksX6_shows_1 2 rfl rfl)
theorem dX6_shows_27 : decode cX6_shows 27 = .ok (.ishl, 1) := dk_120 (dk_at dksX6_shows_1 3 rfl rfl)
theorem dX6_shows_28 : decode cX6_shows 28 = .ok (.ixor, 1) := dk_130 (dk_at dksX6_shows_1 4 rfl rfl)
theorem dX6_shows_29 : decode cX6_shows 29 = .ok (.iastore, 1) := dk_79 (dk_at dksX6_shows_1 5 rfl rfl)
theorem dX6_shows_30 : decode cX6_shows 30 = .ok (.iconst 1, 1) := dk_4 (dk_at dksX6_shows_1 6 rfl rfl)
theorem dX6_shows_31 : decode cX6_shows 31 = .ok (.ireturn, 1) := dk_172 (dk_at dksX6_shows_1 7 rfl rfl)
abbrev cX6_board : ByteArray := prog_15_method_82_code
def yX6_board : MethodName := ⟨RX6, "board", "(I)I"⟩
def dkwX6_board_1 : List UInt8 := [182, 1, 22, 184, 1, 49, 182, 0, 82, 167, 0, 9, 42, 16, 7, 182, 0, 78, 172]
abbrev dktX6_board_1 : List UInt8 := dkwX6_board_1 ++ []
def dkwX6_board_0 : List UInt8 := [42, 27, 182, 1, 34, 154, 0, 9, 42, 4, 182, 0, 78, 172, 42, 27, 182, 1, 65, 153, 0, 17, 42, 42]
abbrev dktX6_board_0 : List UInt8 := dkwX6_board_0 ++ dktX6_board_1
theorem dksX6_board_0 : cX6_board.data.toList.drop 0 = dktX6_board_0 := by decide +kernel
theorem dksX6_board_1 : cX6_board.data.toList.drop 24 = dktX6_board_1 := dk_seg dksX6_board_0 24 rfl rfl
theorem dX6_board_0 : decode cX6_board 0 = .ok (.aload_n 0, 1) := dk_42 (dk_at dksX6_board_0 0 rfl rfl)
theorem dX6_board_1 : decode cX6_board 1 = .ok (.iload_n 1, 1) := dk_27 (dk_at dksX6_board_0 1 rfl rfl)
theorem dX6_board_2 : decode cX6_board 2 = .ok (.invokevirtual 290, 3) := dk_182 1 34 (dk_at dksX6_board_0 2 rfl rfl)
theorem dX6_board_5 : decode cX6_board 5 = .ok (.ifCond .ne 9, 3) := dk_154 0 9 (dk_at dksX6_board_0 5 rfl rfl)
theorem dX6_board_8 : decode cX6_board 8 = .ok (.aload_n 0, 1) := dk_42 (dk_at dksX6_board_0 8 rfl rfl)
theorem dX6_board_9 : decode cX6_board 9 = .ok (.iconst 1, 1) := dk_4 (dk_at dksX6_board_0 9 rfl rfl)
theorem dX6_board_10 : decode cX6_board 10 = .ok (.invokevirtual 78, 3) := dk_182 0 78 (dk_at dksX6_board_0 10 rfl rfl)
theorem dX6_board_13 : decode cX6_board 13 = .ok (.ireturn, 1) := dk_172 (dk_at dksX6_board_0 13 rfl rfl)
theorem dX6_board_14 : decode cX6_board 14 = .ok (.aload_n 0, 1) := dk_42 (dk_at dksX6_board_0 14 rfl rfl)
theorem dX6_board_15 : decode cX6_board 15 = .ok (.iload_n 1, 1) := dk_27 (dk_at dksX6_board_0 15 rfl rfl)
theorem dX6_board_16 : decode cX6_board 16 = .ok (.invokevirtual 321, 3) := dk_182 1 65 (dk_at dksX6_board_0 16 rfl rfl)
theorem dX6_board_19 : decode cX6_board 19 = .ok (.ifCond .eq 17, 3) := dk_153 0 17 (dk_at dksX6_board_0 19 rfl rfl)
theorem dX6_board_22 : decode cX6_board 22 = .ok (.aload_n 0, 1) := dk_42 (dk_at dksX6_board_0 22 rfl rfl)
theorem dX6_board_23 : decode cX6_board 23 = .ok (.aload_n 0, 1) := dk_42 (dk_at dksX6_board_0 23 rfl rfl)
theorem dX6_board_24 : decode cX6_board 24 = .ok (.invokevirtual 278, 3) := dk_182 1 22 (dk_at dksX6_board_1 0 rfl rfl)
theorem dX6_board_27 : decode cX6_board 27 = .ok (.invokestatic 305, 3) := dk_184 1 49 (dk_at dksX6_board_1 3 rfl rfl)
theorem dX6_board_30 : decode cX6_board 30 = .ok (.invokevirtual 82, 3) := dk_182 0 82 (dk_at dksX6_board_1 6 rfl rfl)
theorem dX6_board_33 : decode cX6_board 33 = .ok (.goto 9, 3) := dk_167 0 9 (dk_at dksX6_board_1 9 rfl rfl)
theorem dX6_board_36 : decode cX6_board 36 = .ok (.aload_n 0, 1) := dk_42 (dk_at dksX6_board_1 12 rfl rfl)
theorem dX6_board_37 : decode cX6_board 37 = .ok (.bipush 7, 2) := dk_16 7 (dk_at dksX6_board_1 13 rfl rfl)
theorem dX6_board_39 : decode cX6_board 39 = .ok (.invokevirtual 78, 3) := dk_182 0 78 (dk_at dksX6_board_1 15 rfl rfl)
theorem dX6_board_42 : decode cX6_board 42 = .ok (.ireturn, 1) := dk_172 (dk_at dksX6_board_1 18 rfl rfl)
abbrev cX6_boards : ByteArray := prog_15_method_81_code
def yX6_boards : MethodName := ⟨RX6, "boards", "(I)Z"⟩
def dkwX6_boards_0 : List UInt8 := [42, 27, 182, 1, 40, 61, 42, 180, 0, 7, 16, 7, 92, 46, 4, 27, 120, 2, 130, 126, 79, 28, 172]
abbrev dktX6_boards_0 : List UInt8 := dkwX6_boards_0 ++ []
theorem dksX6_boards_0 : cX6_boards.data.toList.drop 0 = dktX6_boards_0 := by decide +kernel
theorem dX6_boards_0 : decode cX6_boards 0 = .ok (.aload_n 0, 1) := dk_42 (dk_at dksX6_boards_0 0 rfl rfl)
theorem dX6_boards_1 : decode cX6_boards 1 = .ok (.iload_n 1, 1) := dk_27 (dk_at dksX6_boards_0 1 rfl rfl)
theorem dX6_boards_2 : decode cX6_boards 2 = .ok (.invokevirtual 296, 3) := dk_182 1 40 (dk_at dksX6_boards_0 2 rfl rfl)
theorem dX6_boards_5 : decode cX6_boards 5 = .ok (.istore_n 2, 1) := dk_61 (dk_at dksX6_boards_0 5 rfl rfl)
theorem dX6_boards_6 : decode cX6_boards 6 = .ok (.aload_n 0, 1) := dk_42 (dk_at dksX6_boards_0 6 rfl rfl)
theorem dX6_boards_7 : decode cX6_boards 7 = .ok (.getfield 7, 3) := dk_180 0 7 (dk_at dksX6_boards_0 7 rfl rfl)
theorem dX6_boards_10 : decode cX6_boards 10 = .ok (.bipush 7, 2) := dk_16 7 (dk_at dksX6_boards_0 10 rfl rfl)
theorem dX6_boards_12 : decode cX6_boards 12 = .ok (.dup2, 1) := dk_92 (dk_at dksX6_boards_0 12 rfl rfl)
theorem dX6_boards_13 : decode cX6_boards 13 = .ok (.iaload, 1) := dk_46 (dk_at dksX6_boards_0 13 rfl rfl)
theorem dX6_boards_14 : decode cX6_boards 14 = .ok (.iconst 1, 1) := dk_4 (dk_at dksX6_boards_0 14 rfl rfl)
theorem dX6_boards_15 : decode cX6_boards 15 = .ok (.iload_n 1, 1) := dk_27 (dk_at dksX6_boards_0 15 rfl rfl)
theorem dX6_boards_16 : decode cX6_boards 16 = .ok (.ishl, 1) := dk_120 (dk_at dksX6_boards_0 16 rfl rfl)
theorem dX6_boards_17 : decode cX6_boards 17 = .ok (.iconst (-1), 1) := dk_2 (dk_at dksX6_boards_0 17 rfl rfl)
theorem dX6_boards_18 : decode cX6_boards 18 = .ok (.ixor, 1) := dk_130 (dk_at dksX6_boards_0 18 rfl rfl)
theorem dX6_boards_19 : decode cX6_boards 19 = .ok (.iand, 1) := dk_126 (dk_at dksX6_boards_0 19 rfl rfl)
theorem dX6_boards_20 : decode cX6_boards 20 = .ok (.iastore, 1) := dk_79 (dk_at dksX6_boards_0 20 rfl rfl)
theorem dX6_boards_21 : decode cX6_boards 21 = .ok (.iload_n 2, 1) := dk_28 (dk_at dksX6_boards_0 21 rfl rfl)
theorem dX6_boards_22 : decode cX6_boards 22 = .ok (.ireturn, 1) := dk_172 (dk_at dksX6_boards_0 22 rfl rfl)
abbrev cX6_sway : ByteArray := prog_15_method_84_code
def yX6_sway : MethodName := ⟨RX6, "sway", "(II)Z"⟩
def dkwX6_sway_1 : List UInt8 := [182, 0, 85, 172, 42, 27, 28, 182, 1, 70, 87, 42, 3, 182, 0, 85, 172]
abbrev dktX6_sway_1 : List UInt8 := dkwX6_sway_1 ++ []
def dkwX6_sway_0 : List UInt8 := [42, 27, 182, 1, 34, 153, 0, 15, 28, 133, 9, 20, 1, 68, 184, 1, 0, 154, 0, 9, 42, 4]
abbrev dktX6_sway_0 : List UInt8 := dkwX6_sway_0 ++ dktX6_sway_1
theorem dksX6_sway_0 : cX6_sway.data.toList.drop 0 = dktX6_sway_0 := by decide +kernel
theorem dksX6_sway_1 : cX6_sway.data.toList.drop 22 = dktX6_sway_1 := dk_seg dksX6_sway_0 22 rfl rfl
theorem dX6_sway_0 : decode cX6_sway 0 = .ok (.aload_n 0, 1) := dk_42 (dk_at dksX6_sway_0 0 rfl rfl)
theorem dX6_sway_1 : decode cX6_sway 1 = .ok (.iload_n 1, 1) := dk_27 (dk_at dksX6_sway_0 1 rfl rfl)
theorem dX6_sway_2 : decode cX6_sway 2 = .ok (.invokevirtual 290, 3) := dk_182 1 34 (dk_at dksX6_sway_0 2 rfl rfl)
theorem dX6_sway_5 : decode cX6_sway 5 = .ok (.ifCond .eq 15, 3) := dk_153 0 15 (dk_at dksX6_sway_0 5 rfl rfl)
theorem dX6_sway_8 : decode cX6_sway 8 = .ok (.iload_n 2, 1) := dk_28 (dk_at dksX6_sway_0 8 rfl rfl)
theorem dX6_sway_9 : decode cX6_sway 9 = .ok (.i2l, 1) := dk_133 (dk_at dksX6_sway_0 9 rfl rfl)
theorem dX6_sway_10 : decode cX6_sway 10 = .ok (.lconst 0, 1) := dk_9 (dk_at dksX6_sway_0 10 rfl rfl)
theorem dX6_sway_11 : decode cX6_sway 11 = .ok (.ldc2_w 324, 3) := dk_20 1 68 (dk_at dksX6_sway_0 11 rfl rfl)
theorem dX6_sway_14 : decode cX6_sway 14 = .ok (.invokestatic 256, 3) := dk_184 1 0 (dk_at dksX6_sway_0 14 rfl rfl)
theorem dX6_sway_17 : decode cX6_sway 17 = .ok (.ifCond .ne 9, 3) := dk_154 0 9 (dk_at dksX6_sway_0 17 rfl rfl)
theorem dX6_sway_20 : decode cX6_sway 20 = .ok (.aload_n 0, 1) := dk_42 (dk_at dksX6_sway_0 20 rfl rfl)
theorem dX6_sway_21 : decode cX6_sway 21 = .ok (.iconst 1, 1) := dk_4 (dk_at dksX6_sway_0 21 rfl rfl)
theorem dX6_sway_22 : decode cX6_sway 22 = .ok (.invokevirtual 85, 3) := dk_182 0 85 (dk_at dksX6_sway_1 0 rfl rfl)
theorem dX6_sway_25 : decode cX6_sway 25 = .ok (.ireturn, 1) := dk_172 (dk_at dksX6_sway_1 3 rfl rfl)
theorem dX6_sway_26 : decode cX6_sway 26 = .ok (.aload_n 0, 1) := dk_42 (dk_at dksX6_sway_1 4 rfl rfl)
theorem dX6_sway_27 : decode cX6_sway 27 = .ok (.iload_n 1, 1) := dk_27 (dk_at dksX6_sway_1 5 rfl rfl)
theorem dX6_sway_28 : decode cX6_sway 28 = .ok (.iload_n 2, 1) := dk_28 (dk_at dksX6_sway_1 6 rfl rfl)
theorem dX6_sway_29 : decode cX6_sway 29 = .ok (.invokevirtual 326, 3) := dk_182 1 70 (dk_at dksX6_sway_1 7 rfl rfl)
theorem dX6_sway_32 : decode cX6_sway 32 = .ok (.pop, 1) := dk_87 (dk_at dksX6_sway_1 10 rfl rfl)
theorem dX6_sway_33 : decode cX6_sway 33 = .ok (.aload_n 0, 1) := dk_42 (dk_at dksX6_sway_1 11 rfl rfl)
theorem dX6_sway_34 : decode cX6_sway 34 = .ok (.iconst 0, 1) := dk_3 (dk_at dksX6_sway_1 12 rfl rfl)
theorem dX6_sway_35 : decode cX6_sway 35 = .ok (.invokevirtual 85, 3) := dk_182 0 85 (dk_at dksX6_sway_1 13 rfl rfl)
theorem dX6_sway_38 : decode cX6_sway 38 = .ok (.ireturn, 1) := dk_172 (dk_at dksX6_sway_1 16 rfl rfl)
abbrev cX6_isFrom : ByteArray := prog_15_method_18_code
def yX6_isFrom : MethodName := ⟨RX6, "isFrom", "(JJJ)Z"⟩
def dkwX6_isFrom_0 : List UInt8 := [30, 32, 148, 155, 0, 14, 30, 22, 4, 148, 157, 0, 7, 4, 167, 0, 4, 3, 172]
abbrev dktX6_isFrom_0 : List UInt8 := dkwX6_isFrom_0 ++ []
theorem dksX6_isFrom_0 : cX6_isFrom.data.toList.drop 0 = dktX6_isFrom_0 := by decide +kernel
theorem dX6_isFrom_0 : decode cX6_isFrom 0 = .ok (.lload_n 0, 1) := dk_30 (dk_at dksX6_isFrom_0 0 rfl rfl)
theorem dX6_isFrom_1 : decode cX6_isFrom 1 = .ok (.lload_n 2, 1) := dk_32 (dk_at dksX6_isFrom_0 1 rfl rfl)
theorem dX6_isFrom_2 : decode cX6_isFrom 2 = .ok (.lcmp, 1) := dk_148 (dk_at dksX6_isFrom_0 2 rfl rfl)
theorem dX6_isFrom_3 : decode cX6_isFrom 3 = .ok (.ifCond .lt 14, 3) := dk_155 0 14 (dk_at dksX6_isFrom_0 3 rfl rfl)
theorem dX6_isFrom_6 : decode cX6_isFrom 6 = .ok (.lload_n 0, 1) := dk_30 (dk_at dksX6_isFrom_0 6 rfl rfl)
theorem dX6_isFrom_7 : decode cX6_isFrom 7 = .ok (.lload 4, 2) := dk_22 4 (dk_at dksX6_isFrom_0 7 rfl rfl)
theorem dX6_isFrom_9 : decode cX6_isFrom 9 = .ok (.lcmp, 1) := dk_148 (dk_at dksX6_isFrom_0 9 rfl rfl)
theorem dX6_isFrom_10 : decode cX6_isFrom 10 = .ok (.ifCond .gt 7, 3) := dk_157 0 7 (dk_at dksX6_isFrom_0 10 rfl rfl)
theorem dX6_isFrom_13 : decode cX6_isFrom 13 = .ok (.iconst 1, 1) := dk_4 (dk_at dksX6_isFrom_0 13 rfl rfl)
theorem dX6_isFrom_14 : decode cX6_isFrom 14 = .ok (.goto 4, 3) := dk_167 0 4 (dk_at dksX6_isFrom_0 14 rfl rfl)
theorem dX6_isFrom_17 : decode cX6_isFrom 17 = .ok (.iconst 0, 1) := dk_3 (dk_at dksX6_isFrom_0 17 rfl rfl)
theorem dX6_isFrom_18 : decode cX6_isFrom 18 = .ok (.ireturn, 1) := dk_172 (dk_at dksX6_isFrom_0 18 rfl rfl)
abbrev cX6_sways : ByteArray := prog_15_method_83_code
def yX6_sways : MethodName := ⟨RX6, "sways", "(II)Z"⟩
def dkwX6_sways_1 : List UInt8 := [28, 79, 29, 172]
abbrev dktX6_sways_1 : List UInt8 := dkwX6_sways_1 ++ []
def dkwX6_sways_0 : List UInt8 := [42, 27, 3, 182, 1, 10, 28, 159, 0, 7, 4, 167, 0, 4, 3, 62, 42, 180, 0, 7, 27, 184, 0, 194]
abbrev dktX6_sways_0 : List UInt8 := dkwX6_sways_0 ++ dktX6_sways_1
theorem dksX6_sways_0 : cX6_sways.data.toList.drop 0 = dktX6_sways_0 := by decide +kernel
theorem dksX6_sways_1 : cX6_sways.data.toList.drop 24 = dktX6_sways_1 := dk_seg dksX6_sways_0 24 rfl rfl
theorem dX6_sways_0 : decode cX6_sways 0 = .ok (.aload_n 0, 1) := dk_42 (dk_at dksX6_sways_0 0 rfl rfl)
theorem dX6_sways_1 : decode cX6_sways 1 = .ok (.iload_n 1, 1) := dk_27 (dk_at dksX6_sways_0 1 rfl rfl)
theorem dX6_sways_2 : decode cX6_sways 2 = .ok (.iconst 0, 1) := dk_3 (dk_at dksX6_sways_0 2 rfl rfl)
theorem dX6_sways_3 : decode cX6_sways 3 = .ok (.invokevirtual 266, 3) := dk_182 1 10 (dk_at dksX6_sways_0 3 rfl rfl)
theorem dX6_sways_6 : decode cX6_sways 6 = .ok (.iload_n 2, 1) := dk_28 (dk_at dksX6_sways_0 6 rfl rfl)
theorem dX6_sways_7 : decode cX6_sways 7 = .ok (.if_icmp .eq 7, 3) := dk_159 0 7 (dk_at dksX6_sways_0 7 rfl rfl)
theorem dX6_sways_10 : decode cX6_sways 10 = .ok (.iconst 1, 1) := dk_4 (dk_at dksX6_sways_0 10 rfl rfl)
theorem dX6_sways_11 : decode cX6_sways 11 = .ok (.goto 4, 3) := dk_167 0 4 (dk_at dksX6_sways_0 11 rfl rfl)
theorem dX6_sways_14 : decode cX6_sways 14 = .ok (.iconst 0, 1) := dk_3 (dk_at dksX6_sways_0 14 rfl rfl)
theorem dX6_sways_15 : decode cX6_sways 15 = .ok (.istore_n 3, 1) := dk_62 (dk_at dksX6_sways_0 15 rfl rfl)
theorem dX6_sways_16 : decode cX6_sways 16 = .ok (.aload_n 0, 1) := dk_42 (dk_at dksX6_sways_0 16 rfl rfl)
theorem dX6_sways_17 : decode cX6_sways 17 = .ok (.getfield 7, 3) := dk_180 0 7 (dk_at dksX6_sways_0 17 rfl rfl)
theorem dX6_sways_20 : decode cX6_sways 20 = .ok (.iload_n 1, 1) := dk_27 (dk_at dksX6_sways_0 20 rfl rfl)
theorem dX6_sways_21 : decode cX6_sways 21 = .ok (.invokestatic 194, 3) := dk_184 0 194 (dk_at dksX6_sways_0 21 rfl rfl)
theorem dX6_sways_24 : decode cX6_sways 24 = .ok (.iload_n 2, 1) := dk_28 (dk_at dksX6_sways_1 0 rfl rfl)
theorem dX6_sways_25 : decode cX6_sways 25 = .ok (.iastore, 1) := dk_79 (dk_at dksX6_sways_1 1 rfl rfl)
theorem dX6_sways_26 : decode cX6_sways 26 = .ok (.iload_n 3, 1) := dk_29 (dk_at dksX6_sways_1 2 rfl rfl)
theorem dX6_sways_27 : decode cX6_sways 27 = .ok (.ireturn, 1) := dk_172 (dk_at dksX6_sways_1 3 rfl rfl)
abbrev cX6_excuse : ByteArray := prog_15_method_85_code
def yX6_excuse : MethodName := ⟨RX6, "excuse", "(IIZ)Z"⟩
def dkwX6_excuse_2 : List UInt8 := [27, 184, 0, 194, 5, 96, 92, 46, 4, 28, 120, 130, 79, 42, 3, 182, 0, 85, 172]
abbrev dktX6_excuse_2 : List UInt8 := dkwX6_excuse_2 ++ []
def dkwX6_excuse_1 : List UInt8 := [27, 5, 182, 1, 10, 28, 182, 1, 7, 29, 160, 0, 10, 42, 16, 7, 182, 0, 85, 172, 42, 180, 0, 7]
abbrev dktX6_excuse_1 : List UInt8 := dkwX6_excuse_1 ++ dktX6_excuse_2
def dkwX6_excuse_0 : List UInt8 := [42, 27, 182, 1, 34, 153, 0, 11, 42, 28, 182, 1, 28, 154, 0, 9, 42, 4, 182, 0, 85, 172, 42, 42]
abbrev dktX6_excuse_0 : List UInt8 := dkwX6_excuse_0 ++ dktX6_excuse_1
theorem dksX6_excuse_0 : cX6_excuse.data.toList.drop 0 = dktX6_excuse_0 := by decide +kernel
theorem dksX6_excuse_1 : cX6_excuse.data.toList.drop 24 = dktX6_excuse_1 := dk_seg dksX6_excuse_0 24 rfl rfl
theorem dksX6_excuse_2 : cX6_excuse.data.toList.drop 48 = dktX6_excuse_2 := dk_seg dksX6_excuse_1 24 rfl rfl
theorem dX6_excuse_0 : decode cX6_excuse 0 = .ok (.aload_n 0, 1) := dk_42 (dk_at dksX6_excuse_0 0 rfl rfl)
theorem dX6_excuse_1 : decode cX6_excuse 1 = .ok (.iload_n 1, 1) := dk_27 (dk_at dksX6_excuse_0 1 rfl rfl)
theorem dX6_excuse_2 : decode cX6_excuse 2 = .ok (.invokevirtual 290, 3) := dk_182 1 34 (dk_at dksX6_excuse_0 2 rfl rfl)
theorem dX6_excuse_5 : decode cX6_excuse 5 = .ok (.ifCond .eq 11, 3) := dk_153 0 11 (dk_at dksX6_excuse_0 5 rfl rfl)
theorem dX6_excuse_8 : decode cX6_excuse 8 = .ok (.aload_n 0, 1) := dk_42 (dk_at dksX6_excuse_0 8 rfl rfl)
theorem dX6_excuse_9 : decode cX6_excuse 9 = .ok (.iload_n 2, 1) := dk_28 (dk_at dksX6_excuse_0 9 rfl rfl)
theorem dX6_excuse_10 : decode cX6_excuse 10 = .ok (.invokevirtual 284, 3) := dk_182 1 28 (dk_at dksX6_excuse_0 10 rfl rfl)
theorem dX6_excuse_13 : decode cX6_excuse 13 = .ok (.ifCond .ne 9, 3) := dk_154 0 9 (dk_at dksX6_excuse_0 13 rfl rfl)
theorem dX6_excuse_16 : decode cX6_excuse 16 = .ok (.aload_n 0, 1) := dk_42 (dk_at dksX6_excuse_0 16 rfl rfl)
theorem dX6_excuse_17 : decode cX6_excuse 17 = .ok (.iconst 1, 1) := dk_4 (dk_at dksX6_excuse_0 17 rfl rfl)
theorem dX6_excuse_18 : decode cX6_excuse 18 = .ok (.invokevirtual 85, 3) := dk_182 0 85 (dk_at dksX6_excuse_0 18 rfl rfl)
theorem dX6_excuse_21 : decode cX6_excuse 21 = .ok (.ireturn, 1) := dk_172 (dk_at dksX6_excuse_0 21 rfl rfl)
theorem dX6_excuse_22 : decode cX6_excuse 22 = .ok (.aload_n 0, 1) := dk_42 (dk_at dksX6_excuse_0 22 rfl rfl)
theorem dX6_excuse_23 : decode cX6_excuse 23 = .ok (.aload_n 0, 1) := dk_42 (dk_at dksX6_excuse_0 23 rfl rfl)
theorem dX6_excuse_24 : decode cX6_excuse 24 = .ok (.iload_n 1, 1) := dk_27 (dk_at dksX6_excuse_1 0 rfl rfl)
theorem dX6_excuse_25 : decode cX6_excuse 25 = .ok (.iconst 2, 1) := dk_5 (dk_at dksX6_excuse_1 1 rfl rfl)
theorem dX6_excuse_26 : decode cX6_excuse 26 = .ok (.invokevirtual 266, 3) := dk_182 1 10 (dk_at dksX6_excuse_1 2 rfl rfl)
theorem dX6_excuse_29 : decode cX6_excuse 29 = .ok (.iload_n 2, 1) := dk_28 (dk_at dksX6_excuse_1 5 rfl rfl)
theorem dX6_excuse_30 : decode cX6_excuse 30 = .ok (.invokevirtual 263, 3) := dk_182 1 7 (dk_at dksX6_excuse_1 6 rfl rfl)
theorem dX6_excuse_33 : decode cX6_excuse 33 = .ok (.iload_n 3, 1) := dk_29 (dk_at dksX6_excuse_1 9 rfl rfl)
theorem dX6_excuse_34 : decode cX6_excuse 34 = .ok (.if_icmp .ne 10, 3) := dk_160 0 10 (dk_at dksX6_excuse_1 10 rfl rfl)
theorem dX6_excuse_37 : decode cX6_excuse 37 = .ok (.aload_n 0, 1) := dk_42 (dk_at dksX6_excuse_1 13 rfl rfl)
theorem dX6_excuse_38 : decode cX6_excuse 38 = .ok (.bipush 7, 2) := dk_16 7 (dk_at dksX6_excuse_1 14 rfl rfl)
theorem dX6_excuse_40 : decode cX6_excuse 40 = .ok (.invokevirtual 85, 3) := dk_182 0 85 (dk_at dksX6_excuse_1 16 rfl rfl)
theorem dX6_excuse_43 : decode cX6_excuse 43 = .ok (.ireturn, 1) := dk_172 (dk_at dksX6_excuse_1 19 rfl rfl)
theorem dX6_excuse_44 : decode cX6_excuse 44 = .ok (.aload_n 0, 1) := dk_42 (dk_at dksX6_excuse_1 20 rfl rfl)
theorem dX6_excuse_45 : decode cX6_excuse 45 = .ok (.getfield 7, 3) := dk_180 0 7 (dk_at dksX6_excuse_1 21 rfl rfl)
theorem dX6_excuse_48 : decode cX6_excuse 48 = .ok (.iload_n 1, 1) := dk_27 (dk_at dksX6_excuse_2 0 rfl rfl)
theorem dX6_excuse_49 : decode cX6_excuse 49 = .ok (.invokestatic 194, 3) := dk_184 0 194 (dk_at dksX6_excuse_2 1 rfl rfl)
theorem dX6_excuse_52 : decode cX6_excuse 52 = .ok (.iconst 2, 1) := dk_5 (dk_at dksX6_excuse_2 4 rfl rfl)
theorem dX6_excuse_53 : decode cX6_excuse 53 = .ok (.iadd, 1) := dk_96 (dk_at dksX6_excuse_2 5 rfl rfl)
theorem dX6_excuse_54 : decode cX6_excuse 54 = .ok (.dup2, 1) := dk_92 (dk_at dksX6_excuse_2 6 rfl rfl)
theorem dX6_excuse_55 : decode cX6_excuse 55 = .ok (.iaload, 1) := dk_46 (dk_at dksX6_excuse_2 7 rfl rfl)
theorem dX6_excuse_56 : decode cX6_excuse 56 = .ok (.iconst 1, 1) := dk_4 (dk_at dksX6_excuse_2 8 rfl rfl)
theorem dX6_excuse_57 : decode cX6_excuse 57 = .ok (.iload_n 2, 1) := dk_28 (dk_at dksX6_excuse_2 9 rfl rfl)
theorem dX6_excuse_58 : decode cX6_excuse 58 = .ok (.ishl, 1) := dk_120 (dk_at dksX6_excuse_2 10 rfl rfl)
theorem dX6_excuse_59 : decode cX6_excuse 59 = .ok (.ixor, 1) := dk_130 (dk_at dksX6_excuse_2 11 rfl rfl)
theorem dX6_excuse_60 : decode cX6_excuse 60 = .ok (.iastore, 1) := dk_79 (dk_at dksX6_excuse_2 12 rfl rfl)
theorem dX6_excuse_61 : decode cX6_excuse 61 = .ok (.aload_n 0, 1) := dk_42 (dk_at dksX6_excuse_2 13 rfl rfl)
theorem dX6_excuse_62 : decode cX6_excuse 62 = .ok (.iconst 0, 1) := dk_3 (dk_at dksX6_excuse_2 14 rfl rfl)
theorem dX6_excuse_63 : decode cX6_excuse 63 = .ok (.invokevirtual 85, 3) := dk_182 0 85 (dk_at dksX6_excuse_2 15 rfl rfl)
theorem dX6_excuse_66 : decode cX6_excuse 66 = .ok (.ireturn, 1) := dk_172 (dk_at dksX6_excuse_2 18 rfl rfl)
abbrev cX6_see : ByteArray := prog_15_method_86_code
def yX6_see : MethodName := ⟨RX6, "see", "(IIZ)Z"⟩
def dkwX6_see_2 : List UInt8 := [172, 42, 180, 0, 7, 27, 184, 0, 194, 6, 96, 92, 46, 4, 28, 120, 130, 79, 42, 3, 182, 0, 85, 172]
abbrev dktX6_see_2 : List UInt8 := dkwX6_see_2 ++ []
def dkwX6_see_1 : List UInt8 := [182, 0, 85, 172, 42, 42, 27, 182, 1, 13, 28, 182, 1, 7, 29, 160, 0, 10, 42, 16, 7, 182, 0, 85]
abbrev dktX6_see_1 : List UInt8 := dkwX6_see_1 ++ dktX6_see_2
def dkwX6_see_0 : List UInt8 := [42, 27, 182, 1, 34, 153, 0, 16, 42, 28, 182, 1, 34, 153, 0, 8, 27, 28, 160, 0, 9, 42, 4]
abbrev dktX6_see_0 : List UInt8 := dkwX6_see_0 ++ dktX6_see_1
theorem dksX6_see_0 : cX6_see.data.toList.drop 0 = dktX6_see_0 := by decide +kernel
theorem dksX6_see_1 : cX6_see.data.toList.drop 23 = dktX6_see_1 := dk_seg dksX6_see_0 23 rfl rfl
theorem dksX6_see_2 : cX6_see.data.toList.drop 47 = dktX6_see_2 := dk_seg dksX6_see_1 24 rfl rfl
theorem dX6_see_0 : decode cX6_see 0 = .ok (.aload_n 0, 1) := dk_42 (dk_at dksX6_see_0 0 rfl rfl)
theorem dX6_see_1 : decode cX6_see 1 = .ok (.iload_n 1, 1) := dk_27 (dk_at dksX6_see_0 1 rfl rfl)
theorem dX6_see_2 : decode cX6_see 2 = .ok (.invokevirtual 290, 3) := dk_182 1 34 (dk_at dksX6_see_0 2 rfl rfl)
theorem dX6_see_5 : decode cX6_see 5 = .ok (.ifCond .eq 16, 3) := dk_153 0 16 (dk_at dksX6_see_0 5 rfl rfl)
theorem dX6_see_8 : decode cX6_see 8 = .ok (.aload_n 0, 1) := dk_42 (dk_at dksX6_see_0 8 rfl rfl)
theorem dX6_see_9 : decode cX6_see 9 = .ok (.iload_n 2, 1) := dk_28 (dk_at dksX6_see_0 9 rfl rfl)
theorem dX6_see_10 : decode cX6_see 10 = .ok (.invokevirtual 290, 3) := dk_182 1 34 (dk_at dksX6_see_0 10 rfl rfl)
theorem dX6_see_13 : decode cX6_see 13 = .ok (.ifCond .eq 8, 3) := dk_153 0 8 (dk_at dksX6_see_0 13 rfl rfl)
theorem dX6_see_16 : decode cX6_see 16 = .ok (.iload_n 1, 1) := dk_27 (dk_at dksX6_see_0 16 rfl rfl)
theorem dX6_see_17 : decode cX6_see 17 = .ok (.iload_n 2, 1) := dk_28 (dk_at dksX6_see_0 17 rfl rfl)
theorem dX6_see_18 : decode cX6_see 18 = .ok (.if_icmp .ne 9, 3) := dk_160 0 9 (dk_at dksX6_see_0 18 rfl rfl)
theorem dX6_see_21 : decode cX6_see 21 = .ok (.aload_n 0, 1) := dk_42 (dk_at dksX6_see_0 21 rfl rfl)
theorem dX6_see_22 : decode cX6_see 22 = .ok (.iconst 1, 1) := dk_4 (dk_at dksX6_see_0 22 rfl rfl)
theorem dX6_see_23 : decode cX6_see 23 = .ok (.invokevirtual 85, 3) := dk_182 0 85 (dk_at dksX6_see_1 0 rfl rfl)
theorem dX6_see_26 : decode cX6_see 26 = .ok (.ireturn, 1) := dk_172 (dk_at dksX6_see_1 3 rfl rfl)
theorem dX6_see_27 : decode cX6_see 27 = .ok (.aload_n 0, 1) := dk_42 (dk_at dksX6_see_1 4 rfl rfl)
theorem dX6_see_28 : decode cX6_see 28 = .ok (.aload_n 0, 1) := dk_42 (dk_at dksX6_see_1 5 rfl rfl)
theorem dX6_see_29 : decode cX6_see 29 = .ok (.iload_n 1, 1) := dk_27 (dk_at dksX6_see_1 6 rfl rfl)
theorem dX6_see_30 : decode cX6_see 30 = .ok (.invokevirtual 269, 3) := dk_182 1 13 (dk_at dksX6_see_1 7 rfl rfl)
theorem dX6_see_33 : decode cX6_see 33 = .ok (.iload_n 2, 1) := dk_28 (dk_at dksX6_see_1 10 rfl rfl)
theorem dX6_see_34 : decode cX6_see 34 = .ok (.invokevirtual 263, 3) := dk_182 1 7 (dk_at dksX6_see_1 11 rfl rfl)
theorem dX6_see_37 : decode cX6_see 37 = .ok (.iload_n 3, 1) := dk_29 (dk_at dksX6_see_1 14 rfl rfl)
theorem dX6_see_38 : decode cX6_see 38 = .ok (.if_icmp .ne 10, 3) := dk_160 0 10 (dk_at dksX6_see_1 15 rfl rfl)
theorem dX6_see_41 : decode cX6_see 41 = .ok (.aload_n 0, 1) := dk_42 (dk_at dksX6_see_1 18 rfl rfl)
theorem dX6_see_42 : decode cX6_see 42 = .ok (.bipush 7, 2) := dk_16 7 (dk_at dksX6_see_1 19 rfl rfl)
theorem dX6_see_44 : decode cX6_see 44 = .ok (.invokevirtual 85, 3) := dk_182 0 85 (dk_at dksX6_see_1 21 rfl rfl)
theorem dX6_see_47 : decode cX6_see 47 = .ok (.ireturn, 1) := dk_172 (dk_at dksX6_see_2 0 rfl rfl)
theorem dX6_see_48 : decode cX6_see 48 = .ok (.aload_n 0, 1) := dk_42 (dk_at dksX6_see_2 1 rfl rfl)
theorem dX6_see_49 : decode cX6_see 49 = .ok (.getfield 7, 3) := dk_180 0 7 (dk_at dksX6_see_2 2 rfl rfl)
theorem dX6_see_52 : decode cX6_see 52 = .ok (.iload_n 1, 1) := dk_27 (dk_at dksX6_see_2 5 rfl rfl)
theorem dX6_see_53 : decode cX6_see 53 = .ok (.invokestatic 194, 3) := dk_184 0 194 (dk_at dksX6_see_2 6 rfl rfl)
theorem dX6_see_56 : decode cX6_see 56 = .ok (.iconst 3, 1) := dk_6 (dk_at dksX6_see_2 9 rfl rfl)
theorem dX6_see_57 : decode cX6_see 57 = .ok (.iadd, 1) := dk_96 (dk_at dksX6_see_2 10 rfl rfl)
theorem dX6_see_58 : decode cX6_see 58 = .ok (.dup2, 1) := dk_92 (dk_at dksX6_see_2 11 rfl rfl)
theorem dX6_see_59 : decode cX6_see 59 = .ok (.iaload, 1) := dk_46 (dk_at dksX6_see_2 12 rfl rfl)
theorem dX6_see_60 : decode cX6_see 60 = .ok (.iconst 1, 1) := dk_4 (dk_at dksX6_see_2 13 rfl rfl)
theorem dX6_see_61 : decode cX6_see 61 = .ok (.iload_n 2, 1) := dk_28 (dk_at dksX6_see_2 14 rfl rfl)
theorem dX6_see_62 : decode cX6_see 62 = .ok (.ishl, 1) := dk_120 (dk_at dksX6_see_2 15 rfl rfl)
theorem dX6_see_63 : decode cX6_see 63 = .ok (.ixor, 1) := dk_130 (dk_at dksX6_see_2 16 rfl rfl)
theorem dX6_see_64 : decode cX6_see 64 = .ok (.iastore, 1) := dk_79 (dk_at dksX6_see_2 17 rfl rfl)
theorem dX6_see_65 : decode cX6_see 65 = .ok (.aload_n 0, 1) := dk_42 (dk_at dksX6_see_2 18 rfl rfl)
theorem dX6_see_66 : decode cX6_see 66 = .ok (.iconst 0, 1) := dk_3 (dk_at dksX6_see_2 19 rfl rfl)
theorem dX6_see_67 : decode cX6_see 67 = .ok (.invokevirtual 85, 3) := dk_182 0 85 (dk_at dksX6_see_2 20 rfl rfl)
theorem dX6_see_70 : decode cX6_see 70 = .ok (.ireturn, 1) := dk_172 (dk_at dksX6_see_2 23 rfl rfl)
abbrev cX6_paint : ByteArray := prog_15_method_87_code
def yX6_paint : MethodName := ⟨RX6, "paint", "(II)Z"⟩
def dkwX6_paint_1 : List UInt8 := [182, 0, 85, 172, 42, 180, 0, 7, 16, 10, 27, 96, 28, 79, 42, 3, 182, 0, 85, 172]
abbrev dktX6_paint_1 : List UInt8 := dkwX6_paint_1 ++ []
def dkwX6_paint_0 : List UInt8 := [42, 27, 182, 1, 28, 153, 0, 15, 28, 133, 10, 20, 1, 73, 184, 1, 0, 154, 0, 9, 42, 4]
abbrev dktX6_paint_0 : List UInt8 := dkwX6_paint_0 ++ dktX6_paint_1
theorem dksX6_paint_0 : cX6_paint.data.toList.drop 0 = dktX6_paint_0 := by decide +kernel
theorem dksX6_paint_1 : cX6_paint.data.toList.drop 22 = dktX6_paint_1 := dk_seg dksX6_paint_0 22 rfl rfl
theorem dX6_paint_0 : decode cX6_paint 0 = .ok (.aload_n 0, 1) := dk_42 (dk_at dksX6_paint_0 0 rfl rfl)
theorem dX6_paint_1 : decode cX6_paint 1 = .ok (.iload_n 1, 1) := dk_27 (dk_at dksX6_paint_0 1 rfl rfl)
theorem dX6_paint_2 : decode cX6_paint 2 = .ok (.invokevirtual 284, 3) := dk_182 1 28 (dk_at dksX6_paint_0 2 rfl rfl)
theorem dX6_paint_5 : decode cX6_paint 5 = .ok (.ifCond .eq 15, 3) := dk_153 0 15 (dk_at dksX6_paint_0 5 rfl rfl)
theorem dX6_paint_8 : decode cX6_paint 8 = .ok (.iload_n 2, 1) := dk_28 (dk_at dksX6_paint_0 8 rfl rfl)
theorem dX6_paint_9 : decode cX6_paint 9 = .ok (.i2l, 1) := dk_133 (dk_at dksX6_paint_0 9 rfl rfl)
theorem dX6_paint_10 : decode cX6_paint 10 = .ok (.lconst 1, 1) := dk_10 (dk_at dksX6_paint_0 10 rfl rfl)
theorem dX6_paint_11 : decode cX6_paint 11 = .ok (.ldc2_w 329, 3) := dk_20 1 73 (dk_at dksX6_paint_0 11 rfl rfl)
theorem dX6_paint_14 : decode cX6_paint 14 = .ok (.invokestatic 256, 3) := dk_184 1 0 (dk_at dksX6_paint_0 14 rfl rfl)
theorem dX6_paint_17 : decode cX6_paint 17 = .ok (.ifCond .ne 9, 3) := dk_154 0 9 (dk_at dksX6_paint_0 17 rfl rfl)
theorem dX6_paint_20 : decode cX6_paint 20 = .ok (.aload_n 0, 1) := dk_42 (dk_at dksX6_paint_0 20 rfl rfl)
theorem dX6_paint_21 : decode cX6_paint 21 = .ok (.iconst 1, 1) := dk_4 (dk_at dksX6_paint_0 21 rfl rfl)
theorem dX6_paint_22 : decode cX6_paint 22 = .ok (.invokevirtual 85, 3) := dk_182 0 85 (dk_at dksX6_paint_1 0 rfl rfl)
theorem dX6_paint_25 : decode cX6_paint 25 = .ok (.ireturn, 1) := dk_172 (dk_at dksX6_paint_1 3 rfl rfl)
theorem dX6_paint_26 : decode cX6_paint 26 = .ok (.aload_n 0, 1) := dk_42 (dk_at dksX6_paint_1 4 rfl rfl)
theorem dX6_paint_27 : decode cX6_paint 27 = .ok (.getfield 7, 3) := dk_180 0 7 (dk_at dksX6_paint_1 5 rfl rfl)
theorem dX6_paint_30 : decode cX6_paint 30 = .ok (.bipush 10, 2) := dk_16 10 (dk_at dksX6_paint_1 8 rfl rfl)
theorem dX6_paint_32 : decode cX6_paint 32 = .ok (.iload_n 1, 1) := dk_27 (dk_at dksX6_paint_1 10 rfl rfl)
theorem dX6_paint_33 : decode cX6_paint 33 = .ok (.iadd, 1) := dk_96 (dk_at dksX6_paint_1 11 rfl rfl)
theorem dX6_paint_34 : decode cX6_paint 34 = .ok (.iload_n 2, 1) := dk_28 (dk_at dksX6_paint_1 12 rfl rfl)
theorem dX6_paint_35 : decode cX6_paint 35 = .ok (.iastore, 1) := dk_79 (dk_at dksX6_paint_1 13 rfl rfl)
theorem dX6_paint_36 : decode cX6_paint 36 = .ok (.aload_n 0, 1) := dk_42 (dk_at dksX6_paint_1 14 rfl rfl)
theorem dX6_paint_37 : decode cX6_paint 37 = .ok (.iconst 0, 1) := dk_3 (dk_at dksX6_paint_1 15 rfl rfl)
theorem dX6_paint_38 : decode cX6_paint 38 = .ok (.invokevirtual 85, 3) := dk_182 0 85 (dk_at dksX6_paint_1 16 rfl rfl)
theorem dX6_paint_41 : decode cX6_paint 41 = .ok (.ireturn, 1) := dk_172 (dk_at dksX6_paint_1 19 rfl rfl)
abbrev cX6_come : ByteArray := prog_15_method_88_code
def yX6_come : MethodName := ⟨RX6, "come", "(I)I"⟩
def dkwX6_come_3 : List UInt8 := [3, 79, 132, 3, 1, 167, 255, 228, 42, 180, 0, 13, 16, 6, 28, 96, 9, 80, 42, 28, 182, 0, 82, 172]
abbrev dktX6_come_3 : List UInt8 := dkwX6_come_3 ++ []
def dkwX6_come_2 : List UInt8 := [62, 29, 7, 162, 0, 29, 42, 180, 0, 7, 28, 184, 0, 194, 29, 96, 29, 154, 0, 7, 27, 167, 0, 4]
abbrev dktX6_come_2 : List UInt8 := dkwX6_come_2 ++ dktX6_come_3
def dkwX6_come_1 : List UInt8 := [61, 28, 16, 8, 160, 0, 9, 42, 7, 182, 0, 78, 172, 42, 180, 0, 7, 4, 92, 46, 4, 96, 79, 3]
abbrev dktX6_come_1 : List UInt8 := dkwX6_come_1 ++ dktX6_come_2
def dkwX6_come_0 : List UInt8 := [27, 133, 9, 20, 1, 68, 184, 1, 0, 154, 0, 9, 42, 4, 182, 0, 78, 172, 42, 180, 0, 7, 4, 46]
abbrev dktX6_come_0 : List UInt8 := dkwX6_come_0 ++ dktX6_come_1
theorem dksX6_come_0 : cX6_come.data.toList.drop 0 = dktX6_come_0 := by decide +kernel
theorem dksX6_come_1 : cX6_come.data.toList.drop 24 = dktX6_come_1 := dk_seg dksX6_come_0 24 rfl rfl
theorem dksX6_come_2 : cX6_come.data.toList.drop 48 = dktX6_come_2 := dk_seg dksX6_come_1 24 rfl rfl
theorem dksX6_come_3 : cX6_come.data.toList.drop 72 = dktX6_come_3 := dk_seg dksX6_come_2 24 rfl rfl
theorem dX6_come_0 : decode cX6_come 0 = .ok (.iload_n 1, 1) := dk_27 (dk_at dksX6_come_0 0 rfl rfl)
theorem dX6_come_1 : decode cX6_come 1 = .ok (.i2l, 1) := dk_133 (dk_at dksX6_come_0 1 rfl rfl)
theorem dX6_come_2 : decode cX6_come 2 = .ok (.lconst 0, 1) := dk_9 (dk_at dksX6_come_0 2 rfl rfl)
theorem dX6_come_3 : decode cX6_come 3 = .ok (.ldc2_w 324, 3) := dk_20 1 68 (dk_at dksX6_come_0 3 rfl rfl)
theorem dX6_come_6 : decode cX6_come 6 = .ok (.invokestatic 256, 3) := dk_184 1 0 (dk_at dksX6_come_0 6 rfl rfl)
theorem dX6_come_9 : decode cX6_come 9 = .ok (.ifCond .ne 9, 3) := dk_154 0 9 (dk_at dksX6_come_0 9 rfl rfl)
theorem dX6_come_12 : decode cX6_come 12 = .ok (.aload_n 0, 1) := dk_42 (dk_at dksX6_come_0 12 rfl rfl)
theorem dX6_come_13 : decode cX6_come 13 = .ok (.iconst 1, 1) := dk_4 (dk_at dksX6_come_0 13 rfl rfl)
theorem dX6_come_14 : decode cX6_come 14 = .ok (.invokevirtual 78, 3) := dk_182 0 78 (dk_at dksX6_come_0 14 rfl rfl)
theorem dX6_come_17 : decode cX6_come 17 = .ok (.ireturn, 1) := dk_172 (dk_at dksX6_come_0 17 rfl rfl)
theorem dX6_come_18 : decode cX6_come 18 = .ok (.aload_n 0, 1) := dk_42 (dk_at dksX6_come_0 18 rfl rfl)
theorem dX6_come_19 : decode cX6_come 19 = .ok (.getfield 7, 3) := dk_180 0 7 (dk_at dksX6_come_0 19 rfl rfl)
theorem dX6_come_22 : decode cX6_come 22 = .ok (.iconst 1, 1) := dk_4 (dk_at dksX6_come_0 22 rfl rfl)
theorem dX6_come_23 : decode cX6_come 23 = .ok (.iaload, 1) := dk_46 (dk_at dksX6_come_0 23 rfl rfl)
theorem dX6_come_24 : decode cX6_come 24 = .ok (.istore_n 2, 1) := dk_61 (dk_at dksX6_come_1 0 rfl rfl)
theorem dX6_come_25 : decode cX6_come 25 = .ok (.iload_n 2, 1) := dk_28 (dk_at dksX6_come_1 1 rfl rfl)
theorem dX6_come_26 : decode cX6_come 26 = .ok (.bipush 8, 2) := dk_16 8 (dk_at dksX6_come_1 2 rfl rfl)
theorem dX6_come_28 : decode cX6_come 28 = .ok (.if_icmp .ne 9, 3) := dk_160 0 9 (dk_at dksX6_come_1 4 rfl rfl)
theorem dX6_come_31 : decode cX6_come 31 = .ok (.aload_n 0, 1) := dk_42 (dk_at dksX6_come_1 7 rfl rfl)
theorem dX6_come_32 : decode cX6_come 32 = .ok (.iconst 4, 1) := dk_7 (dk_at dksX6_come_1 8 rfl rfl)
theorem dX6_come_33 : decode cX6_come 33 = .ok (.invokevirtual 78, 3) := dk_182 0 78 (dk_at dksX6_come_1 9 rfl rfl)
theorem dX6_come_36 : decode cX6_come 36 = .ok (.ireturn, 1) := dk_172 (dk_at dksX6_come_1 12 rfl rfl)
theorem dX6_come_37 : decode cX6_come 37 = .ok (.aload_n 0, 1) := dk_42 (dk_at dksX6_come_1 13 rfl rfl)
theorem dX6_come_38 : decode cX6_come 38 = .ok (.getfield 7, 3) := dk_180 0 7 (dk_at dksX6_come_1 14 rfl rfl)
theorem dX6_come_41 : decode cX6_come 41 = .ok (.iconst 1, 1) := dk_4 (dk_at dksX6_come_1 17 rfl rfl)
theorem dX6_come_42 : decode cX6_come 42 = .ok (.dup2, 1) := dk_92 (dk_at dksX6_come_1 18 rfl rfl)
theorem dX6_come_43 : decode cX6_come 43 = .ok (.iaload, 1) := dk_46 (dk_at dksX6_come_1 19 rfl rfl)
theorem dX6_come_44 : decode cX6_come 44 = .ok (.iconst 1, 1) := dk_4 (dk_at dksX6_come_1 20 rfl rfl)
theorem dX6_come_45 : decode cX6_come 45 = .ok (.iadd, 1) := dk_96 (dk_at dksX6_come_1 21 rfl rfl)
theorem dX6_come_46 : decode cX6_come 46 = .ok (.iastore, 1) := dk_79 (dk_at dksX6_come_1 22 rfl rfl)
theorem dX6_come_47 : decode cX6_come 47 = .ok (.iconst 0, 1) := dk_3 (dk_at dksX6_come_1 23 rfl rfl)
theorem dX6_come_48 : decode cX6_come 48 = .ok (.istore_n 3, 1) := dk_62 (dk_at dksX6_come_2 0 rfl rfl)
theorem dX6_come_49 : decode cX6_come 49 = .ok (.iload_n 3, 1) := dk_29 (dk_at dksX6_come_2 1 rfl rfl)
theorem dX6_come_50 : decode cX6_come 50 = .ok (.iconst 4, 1) := dk_7 (dk_at dksX6_come_2 2 rfl rfl)
theorem dX6_come_51 : decode cX6_come 51 = .ok (.if_icmp .ge 29, 3) := dk_162 0 29 (dk_at dksX6_come_2 3 rfl rfl)
theorem dX6_come_54 : decode cX6_come 54 = .ok (.aload_n 0, 1) := dk_42 (dk_at dksX6_come_2 6 rfl rfl)
theorem dX6_come_55 : decode cX6_come 55 = .ok (.getfield 7, 3) := dk_180 0 7 (dk_at dksX6_come_2 7 rfl rfl)
theorem dX6_come_58 : decode cX6_come 58 = .ok (.iload_n 2, 1) := dk_28 (dk_at dksX6_come_2 10 rfl rfl)
theorem dX6_come_59 : decode cX6_come 59 = .ok (.invokestatic 194, 3) := dk_184 0 194 (dk_at dksX6_come_2 11 rfl rfl)
theorem dX6_come_62 : decode cX6_come 62 = .ok (.iload_n 3, 1) := dk_29 (dk_at dksX6_come_2 14 rfl rfl)
theorem dX6_come_63 : decode cX6_come 63 = .ok (.iadd, 1) := dk_96 (dk_at dksX6_come_2 15 rfl rfl)
theorem dX6_come_64 : decode cX6_come 64 = .ok (.iload_n 3, 1) := dk_29 (dk_at dksX6_come_2 16 rfl rfl)
theorem dX6_come_65 : decode cX6_come 65 = .ok (.ifCond .ne 7, 3) := dk_154 0 7 (dk_at dksX6_come_2 17 rfl rfl)
theorem dX6_come_68 : decode cX6_come 68 = .ok (.iload_n 1, 1) := dk_27 (dk_at dksX6_come_2 20 rfl rfl)
theorem dX6_come_69 : decode cX6_come 69 = .ok (.goto 4, 3) := dk_167 0 4 (dk_at dksX6_come_2 21 rfl rfl)
theorem dX6_come_72 : decode cX6_come 72 = .ok (.iconst 0, 1) := dk_3 (dk_at dksX6_come_3 0 rfl rfl)
theorem dX6_come_73 : decode cX6_come 73 = .ok (.iastore, 1) := dk_79 (dk_at dksX6_come_3 1 rfl rfl)
theorem dX6_come_74 : decode cX6_come 74 = .ok (.iinc 3 1, 3) := dk_132 3 1 (dk_at dksX6_come_3 2 rfl rfl)
theorem dX6_come_77 : decode cX6_come 77 = .ok (.goto (-28), 3) := dk_167 255 228 (dk_at dksX6_come_3 5 rfl rfl)
theorem dX6_come_80 : decode cX6_come 80 = .ok (.aload_n 0, 1) := dk_42 (dk_at dksX6_come_3 8 rfl rfl)
theorem dX6_come_81 : decode cX6_come 81 = .ok (.getfield 13, 3) := dk_180 0 13 (dk_at dksX6_come_3 9 rfl rfl)
theorem dX6_come_84 : decode cX6_come 84 = .ok (.bipush 6, 2) := dk_16 6 (dk_at dksX6_come_3 12 rfl rfl)
theorem dX6_come_86 : decode cX6_come 86 = .ok (.iload_n 2, 1) := dk_28 (dk_at dksX6_come_3 14 rfl rfl)
theorem dX6_come_87 : decode cX6_come 87 = .ok (.iadd, 1) := dk_96 (dk_at dksX6_come_3 15 rfl rfl)
theorem dX6_come_88 : decode cX6_come 88 = .ok (.lconst 0, 1) := dk_9 (dk_at dksX6_come_3 16 rfl rfl)
theorem dX6_come_89 : decode cX6_come 89 = .ok (.lastore, 1) := dk_80 (dk_at dksX6_come_3 17 rfl rfl)
theorem dX6_come_90 : decode cX6_come 90 = .ok (.aload_n 0, 1) := dk_42 (dk_at dksX6_come_3 18 rfl rfl)
theorem dX6_come_91 : decode cX6_come 91 = .ok (.iload_n 2, 1) := dk_28 (dk_at dksX6_come_3 19 rfl rfl)
theorem dX6_come_92 : decode cX6_come 92 = .ok (.invokevirtual 82, 3) := dk_182 0 82 (dk_at dksX6_come_3 20 rfl rfl)
theorem dX6_come_95 : decode cX6_come 95 = .ok (.ireturn, 1) := dk_172 (dk_at dksX6_come_3 23 rfl rfl)
abbrev cX6_rule : ByteArray := prog_15_method_89_code
def yX6_rule : MethodName := ⟨RX6, "rule", "(II)Z"⟩
def dkwX6_rule_3 : List UInt8 := [172]
abbrev dktX6_rule_3 : List UInt8 := dkwX6_rule_3 ++ []
def dkwX6_rule_2 : List UInt8 := [184, 1, 0, 154, 0, 9, 42, 4, 182, 0, 85, 172, 42, 180, 0, 7, 27, 28, 79, 42, 3, 182, 0, 85]
abbrev dktX6_rule_2 : List UInt8 := dkwX6_rule_2 ++ dktX6_rule_3
def dkwX6_rule_1 : List UInt8 := [160, 0, 9, 20, 1, 68, 167, 0, 17, 27, 6, 160, 0, 9, 20, 1, 75, 167, 0, 6, 20, 1, 77]
abbrev dktX6_rule_1 : List UInt8 := dkwX6_rule_1 ++ dktX6_rule_2
def dkwX6_rule_0 : List UInt8 := [27, 5, 161, 0, 51, 27, 7, 163, 0, 46, 28, 133, 27, 5, 160, 0, 7, 10, 167, 0, 4, 9, 27, 5]
abbrev dktX6_rule_0 : List UInt8 := dkwX6_rule_0 ++ dktX6_rule_1
theorem dksX6_rule_0 : cX6_rule.data.toList.drop 0 = dktX6_rule_0 := by decide +kernel
theorem dksX6_rule_1 : cX6_rule.data.toList.drop 24 = dktX6_rule_1 := dk_seg dksX6_rule_0 24 rfl rfl
theorem dksX6_rule_2 : cX6_rule.data.toList.drop 47 = dktX6_rule_2 := dk_seg dksX6_rule_1 23 rfl rfl
theorem dksX6_rule_3 : cX6_rule.data.toList.drop 71 = dktX6_rule_3 := dk_seg dksX6_rule_2 24 rfl rfl
theorem dX6_rule_0 : decode cX6_rule 0 = .ok (.iload_n 1, 1) := dk_27 (dk_at dksX6_rule_0 0 rfl rfl)
theorem dX6_rule_1 : decode cX6_rule 1 = .ok (.iconst 2, 1) := dk_5 (dk_at dksX6_rule_0 1 rfl rfl)
theorem dX6_rule_2 : decode cX6_rule 2 = .ok (.if_icmp .lt 51, 3) := dk_161 0 51 (dk_at dksX6_rule_0 2 rfl rfl)
theorem dX6_rule_5 : decode cX6_rule 5 = .ok (.iload_n 1, 1) := dk_27 (dk_at dksX6_rule_0 5 rfl rfl)
theorem dX6_rule_6 : decode cX6_rule 6 = .ok (.iconst 4, 1) := dk_7 (dk_at dksX6_rule_0 6 rfl rfl)
theorem dX6_rule_7 : decode cX6_rule 7 = .ok (.if_icmp .gt 46, 3) := dk_163 0 46 (dk_at dksX6_rule_0 7 rfl rfl)
theorem dX6_rule_10 : decode cX6_rule 10 = .ok (.iload_n 2, 1) := dk_28 (dk_at dksX6_rule_0 10 rfl rfl)
theorem dX6_rule_11 : decode cX6_rule 11 = .ok (.i2l, 1) := dk_133 (dk_at dksX6_rule_0 11 rfl rfl)
theorem dX6_rule_12 : decode cX6_rule 12 = .ok (.iload_n 1, 1) := dk_27 (dk_at dksX6_rule_0 12 rfl rfl)
theorem dX6_rule_13 : decode cX6_rule 13 = .ok (.iconst 2, 1) := dk_5 (dk_at dksX6_rule_0 13 rfl rfl)
theorem dX6_rule_14 : decode cX6_rule 14 = .ok (.if_icmp .ne 7, 3) := dk_160 0 7 (dk_at dksX6_rule_0 14 rfl rfl)
theorem dX6_rule_17 : decode cX6_rule 17 = .ok (.lconst 1, 1) := dk_10 (dk_at dksX6_rule_0 17 rfl rfl)
theorem dX6_rule_18 : decode cX6_rule 18 = .ok (.goto 4, 3) := dk_167 0 4 (dk_at dksX6_rule_0 18 rfl rfl)
theorem dX6_rule_21 : decode cX6_rule 21 = .ok (.lconst 0, 1) := dk_9 (dk_at dksX6_rule_0 21 rfl rfl)
theorem dX6_rule_22 : decode cX6_rule 22 = .ok (.iload_n 1, 1) := dk_27 (dk_at dksX6_rule_0 22 rfl rfl)
theorem dX6_rule_23 : decode cX6_rule 23 = .ok (.iconst 2, 1) := dk_5 (dk_at dksX6_rule_0 23 rfl rfl)
theorem dX6_rule_24 : decode cX6_rule 24 = .ok (.if_icmp .ne 9, 3) := dk_160 0 9 (dk_at dksX6_rule_1 0 rfl rfl)
theorem dX6_rule_27 : decode cX6_rule 27 = .ok (.ldc2_w 324, 3) := dk_20 1 68 (dk_at dksX6_rule_1 3 rfl rfl)
theorem dX6_rule_30 : decode cX6_rule 30 = .ok (.goto 17, 3) := dk_167 0 17 (dk_at dksX6_rule_1 6 rfl rfl)
theorem dX6_rule_33 : decode cX6_rule 33 = .ok (.iload_n 1, 1) := dk_27 (dk_at dksX6_rule_1 9 rfl rfl)
theorem dX6_rule_34 : decode cX6_rule 34 = .ok (.iconst 3, 1) := dk_6 (dk_at dksX6_rule_1 10 rfl rfl)
theorem dX6_rule_35 : decode cX6_rule 35 = .ok (.if_icmp .ne 9, 3) := dk_160 0 9 (dk_at dksX6_rule_1 11 rfl rfl)
theorem dX6_rule_38 : decode cX6_rule 38 = .ok (.ldc2_w 331, 3) := dk_20 1 75 (dk_at dksX6_rule_1 14 rfl rfl)
theorem dX6_rule_41 : decode cX6_rule 41 = .ok (.goto 6, 3) := dk_167 0 6 (dk_at dksX6_rule_1 17 rfl rfl)
theorem dX6_rule_44 : decode cX6_rule 44 = .ok (.ldc2_w 333, 3) := dk_20 1 77 (dk_at dksX6_rule_1 20 rfl rfl)
theorem dX6_rule_47 : decode cX6_rule 47 = .ok (.invokestatic 256, 3) := dk_184 1 0 (dk_at dksX6_rule_2 0 rfl rfl)
theorem dX6_rule_50 : decode cX6_rule 50 = .ok (.ifCond .ne 9, 3) := dk_154 0 9 (dk_at dksX6_rule_2 3 rfl rfl)
theorem dX6_rule_53 : decode cX6_rule 53 = .ok (.aload_n 0, 1) := dk_42 (dk_at dksX6_rule_2 6 rfl rfl)
theorem dX6_rule_54 : decode cX6_rule 54 = .ok (.iconst 1, 1) := dk_4 (dk_at dksX6_rule_2 7 rfl rfl)
theorem dX6_rule_55 : decode cX6_rule 55 = .ok (.invokevirtual 85, 3) := dk_182 0 85 (dk_at dksX6_rule_2 8 rfl rfl)
theorem dX6_rule_58 : decode cX6_rule 58 = .ok (.ireturn, 1) := dk_172 (dk_at dksX6_rule_2 11 rfl rfl)
theorem dX6_rule_59 : decode cX6_rule 59 = .ok (.aload_n 0, 1) := dk_42 (dk_at dksX6_rule_2 12 rfl rfl)
theorem dX6_rule_60 : decode cX6_rule 60 = .ok (.getfield 7, 3) := dk_180 0 7 (dk_at dksX6_rule_2 13 rfl rfl)
theorem dX6_rule_63 : decode cX6_rule 63 = .ok (.iload_n 1, 1) := dk_27 (dk_at dksX6_rule_2 16 rfl rfl)
theorem dX6_rule_64 : decode cX6_rule 64 = .ok (.iload_n 2, 1) := dk_28 (dk_at dksX6_rule_2 17 rfl rfl)
theorem dX6_rule_65 : decode cX6_rule 65 = .ok (.iastore, 1) := dk_79 (dk_at dksX6_rule_2 18 rfl rfl)
theorem dX6_rule_66 : decode cX6_rule 66 = .ok (.aload_n 0, 1) := dk_42 (dk_at dksX6_rule_2 19 rfl rfl)
theorem dX6_rule_67 : decode cX6_rule 67 = .ok (.iconst 0, 1) := dk_3 (dk_at dksX6_rule_2 20 rfl rfl)
theorem dX6_rule_68 : decode cX6_rule 68 = .ok (.invokevirtual 85, 3) := dk_182 0 85 (dk_at dksX6_rule_2 21 rfl rfl)
theorem dX6_rule_71 : decode cX6_rule 71 = .ok (.ireturn, 1) := dk_172 (dk_at dksX6_rule_3 0 rfl rfl)
abbrev cX6_need : ByteArray := prog_15_method_90_code
def yX6_need : MethodName := ⟨RX6, "need", "(II)I"⟩
def dkwX6_need_1 : List UInt8 := [42, 27, 28, 182, 1, 37, 182, 0, 82, 172]
abbrev dktX6_need_1 : List UInt8 := dkwX6_need_1 ++ []
def dkwX6_need_0 : List UInt8 := [42, 27, 182, 1, 34, 153, 0, 12, 42, 28, 133, 182, 1, 79, 154, 0, 9, 42, 4, 182, 0, 78, 172, 42]
abbrev dktX6_need_0 : List UInt8 := dkwX6_need_0 ++ dktX6_need_1
theorem dksX6_need_0 : cX6_need.data.toList.drop 0 = dktX6_need_0 := by decide +kernel
theorem dksX6_need_1 : cX6_need.data.toList.drop 24 = dktX6_need_1 := dk_seg dksX6_need_0 24 rfl rfl
theorem dX6_need_0 : decode cX6_need 0 = .ok (.aload_n 0, 1) := dk_42 (dk_at dksX6_need_0 0 rfl rfl)
theorem dX6_need_1 : decode cX6_need 1 = .ok (.iload_n 1, 1) := dk_27 (dk_at dksX6_need_0 1 rfl rfl)
theorem dX6_need_2 : decode cX6_need 2 = .ok (.invokevirtual 290, 3) := dk_182 1 34 (dk_at dksX6_need_0 2 rfl rfl)
theorem dX6_need_5 : decode cX6_need 5 = .ok (.ifCond .eq 12, 3) := dk_153 0 12 (dk_at dksX6_need_0 5 rfl rfl)
theorem dX6_need_8 : decode cX6_need 8 = .ok (.aload_n 0, 1) := dk_42 (dk_at dksX6_need_0 8 rfl rfl)
theorem dX6_need_9 : decode cX6_need 9 = .ok (.iload_n 2, 1) := dk_28 (dk_at dksX6_need_0 9 rfl rfl)
theorem dX6_need_10 : decode cX6_need 10 = .ok (.i2l, 1) := dk_133 (dk_at dksX6_need_0 10 rfl rfl)
theorem dX6_need_11 : decode cX6_need 11 = .ok (.invokevirtual 335, 3) := dk_182 1 79 (dk_at dksX6_need_0 11 rfl rfl)
theorem dX6_need_14 : decode cX6_need 14 = .ok (.ifCond .ne 9, 3) := dk_154 0 9 (dk_at dksX6_need_0 14 rfl rfl)
theorem dX6_need_17 : decode cX6_need 17 = .ok (.aload_n 0, 1) := dk_42 (dk_at dksX6_need_0 17 rfl rfl)
theorem dX6_need_18 : decode cX6_need 18 = .ok (.iconst 1, 1) := dk_4 (dk_at dksX6_need_0 18 rfl rfl)
theorem dX6_need_19 : decode cX6_need 19 = .ok (.invokevirtual 78, 3) := dk_182 0 78 (dk_at dksX6_need_0 19 rfl rfl)
theorem dX6_need_22 : decode cX6_need 22 = .ok (.ireturn, 1) := dk_172 (dk_at dksX6_need_0 22 rfl rfl)
theorem dX6_need_23 : decode cX6_need 23 = .ok (.aload_n 0, 1) := dk_42 (dk_at dksX6_need_0 23 rfl rfl)
theorem dX6_need_24 : decode cX6_need 24 = .ok (.aload_n 0, 1) := dk_42 (dk_at dksX6_need_1 0 rfl rfl)
theorem dX6_need_25 : decode cX6_need 25 = .ok (.iload_n 1, 1) := dk_27 (dk_at dksX6_need_1 1 rfl rfl)
theorem dX6_need_26 : decode cX6_need 26 = .ok (.iload_n 2, 1) := dk_28 (dk_at dksX6_need_1 2 rfl rfl)
theorem dX6_need_27 : decode cX6_need 27 = .ok (.invokevirtual 293, 3) := dk_182 1 37 (dk_at dksX6_need_1 3 rfl rfl)
theorem dX6_need_30 : decode cX6_need 30 = .ok (.invokevirtual 82, 3) := dk_182 0 82 (dk_at dksX6_need_1 6 rfl rfl)
theorem dX6_need_33 : decode cX6_need 33 = .ok (.ireturn, 1) := dk_172 (dk_at dksX6_need_1 9 rfl rfl)
abbrev cX6_areOmens : ByteArray := prog_15_method_58_code
def yX6_areOmens : MethodName := ⟨RX6, "areOmens", "(J)Z"⟩
def dkwX6_areOmens_0 : List UInt8 := [31, 9, 42, 182, 0, 253, 133, 184, 1, 0, 172]
abbrev dktX6_areOmens_0 : List UInt8 := dkwX6_areOmens_0 ++ []
theorem dksX6_areOmens_0 : cX6_areOmens.data.toList.drop 0 = dktX6_areOmens_0 := by decide +kernel
theorem dX6_areOmens_0 : decode cX6_areOmens 0 = .ok (.lload_n 1, 1) := dk_31 (dk_at dksX6_areOmens_0 0 rfl rfl)
theorem dX6_areOmens_1 : decode cX6_areOmens 1 = .ok (.lconst 0, 1) := dk_9 (dk_at dksX6_areOmens_0 1 rfl rfl)
theorem dX6_areOmens_2 : decode cX6_areOmens 2 = .ok (.aload_n 0, 1) := dk_42 (dk_at dksX6_areOmens_0 2 rfl rfl)
theorem dX6_areOmens_3 : decode cX6_areOmens 3 = .ok (.invokevirtual 253, 3) := dk_182 0 253 (dk_at dksX6_areOmens_0 3 rfl rfl)
theorem dX6_areOmens_6 : decode cX6_areOmens 6 = .ok (.i2l, 1) := dk_133 (dk_at dksX6_areOmens_0 6 rfl rfl)
theorem dX6_areOmens_7 : decode cX6_areOmens 7 = .ok (.invokestatic 256, 3) := dk_184 1 0 (dk_at dksX6_areOmens_0 7 rfl rfl)
theorem dX6_areOmens_10 : decode cX6_areOmens 10 = .ok (.ireturn, 1) := dk_172 (dk_at dksX6_areOmens_0 10 rfl rfl)
abbrev cX6_allOmens : ByteArray := prog_15_method_56_code
def yX6_allOmens : MethodName := ⟨RX6, "allOmens", "()I"⟩
def dkwX6_allOmens_0 : List UInt8 := [4, 42, 180, 0, 7, 3, 46, 120, 4, 100, 172]
abbrev dktX6_allOmens_0 : List UInt8 := dkwX6_allOmens_0 ++ []
theorem dksX6_allOmens_0 : cX6_allOmens.data.toList.drop 0 = dktX6_allOmens_0 := by decide +kernel
theorem dX6_allOmens_0 : decode cX6_allOmens 0 = .ok (.iconst 1, 1) := dk_4 (dk_at dksX6_allOmens_0 0 rfl rfl)
theorem dX6_allOmens_1 : decode cX6_allOmens 1 = .ok (.aload_n 0, 1) := dk_42 (dk_at dksX6_allOmens_0 1 rfl rfl)
theorem dX6_allOmens_2 : decode cX6_allOmens 2 = .ok (.getfield 7, 3) := dk_180 0 7 (dk_at dksX6_allOmens_0 2 rfl rfl)
theorem dX6_allOmens_5 : decode cX6_allOmens 5 = .ok (.iconst 0, 1) := dk_3 (dk_at dksX6_allOmens_0 5 rfl rfl)
theorem dX6_allOmens_6 : decode cX6_allOmens 6 = .ok (.iaload, 1) := dk_46 (dk_at dksX6_allOmens_0 6 rfl rfl)
theorem dX6_allOmens_7 : decode cX6_allOmens 7 = .ok (.ishl, 1) := dk_120 (dk_at dksX6_allOmens_0 7 rfl rfl)
theorem dX6_allOmens_8 : decode cX6_allOmens 8 = .ok (.iconst 1, 1) := dk_4 (dk_at dksX6_allOmens_0 8 rfl rfl)
theorem dX6_allOmens_9 : decode cX6_allOmens 9 = .ok (.isub, 1) := dk_100 (dk_at dksX6_allOmens_0 9 rfl rfl)
theorem dX6_allOmens_10 : decode cX6_allOmens 10 = .ok (.ireturn, 1) := dk_172 (dk_at dksX6_allOmens_0 10 rfl rfl)
abbrev cX6_roundOf : ByteArray := prog_15_method_91_code
def yX6_roundOf : MethodName := ⟨RX6, "roundOf", "(II)I"⟩
def dkwX6_roundOf_3 : List UInt8 := [172]
abbrev dktX6_roundOf_3 : List UInt8 := dkwX6_roundOf_3 ++ []
def dkwX6_roundOf_2 : List UInt8 := [27, 46, 154, 0, 12, 42, 16, 6, 182, 0, 78, 167, 0, 13, 42, 42, 180, 0, 47, 27, 46, 182, 0, 82]
abbrev dktX6_roundOf_2 : List UInt8 := dkwX6_roundOf_2 ++ dktX6_roundOf_3
def dkwX6_roundOf_1 : List UInt8 := [27, 182, 1, 40, 153, 0, 10, 42, 16, 7, 182, 0, 78, 172, 42, 28, 182, 1, 83, 87, 42, 180, 0, 47]
abbrev dktX6_roundOf_1 : List UInt8 := dkwX6_roundOf_1 ++ dktX6_roundOf_2
def dkwX6_roundOf_0 : List UInt8 := [42, 27, 182, 1, 34, 153, 0, 12, 42, 28, 133, 182, 1, 79, 154, 0, 9, 42, 4, 182, 0, 78, 172, 42]
abbrev dktX6_roundOf_0 : List UInt8 := dkwX6_roundOf_0 ++ dktX6_roundOf_1
theorem dksX6_roundOf_0 : cX6_roundOf.data.toList.drop 0 = dktX6_roundOf_0 := by decide +kernel
theorem dksX6_roundOf_1 : cX6_roundOf.data.toList.drop 24 = dktX6_roundOf_1 := dk_seg dksX6_roundOf_0 24 rfl rfl
theorem dksX6_roundOf_2 : cX6_roundOf.data.toList.drop 48 = dktX6_roundOf_2 := dk_seg dksX6_roundOf_1 24 rfl rfl
theorem dksX6_roundOf_3 : cX6_roundOf.data.toList.drop 72 = dktX6_roundOf_3 := dk_seg dksX6_roundOf_2 24 rfl rfl
theorem dX6_roundOf_0 : decode cX6_roundOf 0 = .ok (.aload_n 0, 1) := dk_42 (dk_at dksX6_roundOf_0 0 rfl rfl)
theorem dX6_roundOf_1 : decode cX6_roundOf 1 = .ok (.iload_n 1, 1) := dk_27 (dk_at dksX6_roundOf_0 1 rfl rfl)
theorem dX6_roundOf_2 : decode cX6_roundOf 2 = .ok (.invokevirtual 290, 3) := dk_182 1 34 (dk_at dksX6_roundOf_0 2 rfl rfl)
theorem dX6_roundOf_5 : decode cX6_roundOf 5 = .ok (.ifCond .eq 12, 3) := dk_153 0 12 (dk_at dksX6_roundOf_0 5 rfl rfl)
theorem dX6_roundOf_8 : decode cX6_roundOf 8 = .ok (.aload_n 0, 1) := dk_42 (dk_at dksX6_roundOf_0 8 rfl rfl)
theorem dX6_roundOf_9 : decode cX6_roundOf 9 = .ok (.iload_n 2, 1) := dk_28 (dk_at dksX6_roundOf_0 9 rfl rfl)
theorem dX6_roundOf_10 : decode cX6_roundOf 10 = .ok (.i2l, 1) := dk_133 (dk_at dksX6_roundOf_0 10 rfl rfl)
theorem dX6_roundOf_11 : decode cX6_roundOf 11 = .ok (.invokevirtual 335, 3) := dk_182 1 79 (dk_at dksX6_roundOf_0 11 rfl rfl)
theorem dX6_roundOf_14 : decode cX6_roundOf 14 = .ok (.ifCond .ne 9, 3) := dk_154 0 9 (dk_at dksX6_roundOf_0 14 rfl rfl)
theorem dX6_roundOf_17 : decode cX6_roundOf 17 = .ok (.aload_n 0, 1) := dk_42 (dk_at dksX6_roundOf_0 17 rfl rfl)
theorem dX6_roundOf_18 : decode cX6_roundOf 18 = .ok (.iconst 1, 1) := dk_4 (dk_at dksX6_roundOf_0 18 rfl rfl)
theorem dX6_roundOf_19 : decode cX6_roundOf 19 = .ok (.invokevirtual 78, 3) := dk_182 0 78 (dk_at dksX6_roundOf_0 19 rfl rfl)
theorem dX6_roundOf_22 : decode cX6_roundOf 22 = .ok (.ireturn, 1) := dk_172 (dk_at dksX6_roundOf_0 22 rfl rfl)
theorem dX6_roundOf_23 : decode cX6_roundOf 23 = .ok (.aload_n 0, 1) := dk_42 (dk_at dksX6_roundOf_0 23 rfl rfl)
theorem dX6_roundOf_24 : decode cX6_roundOf 24 = .ok (.iload_n 1, 1) := dk_27 (dk_at dksX6_roundOf_1 0 rfl rfl)
theorem dX6_roundOf_25 : decode cX6_roundOf 25 = .ok (.invokevirtual 296, 3) := dk_182 1 40 (dk_at dksX6_roundOf_1 1 rfl rfl)
theorem dX6_roundOf_28 : decode cX6_roundOf 28 = .ok (.ifCond .eq 10, 3) := dk_153 0 10 (dk_at dksX6_roundOf_1 4 rfl rfl)
theorem dX6_roundOf_31 : decode cX6_roundOf 31 = .ok (.aload_n 0, 1) := dk_42 (dk_at dksX6_roundOf_1 7 rfl rfl)
theorem dX6_roundOf_32 : decode cX6_roundOf 32 = .ok (.bipush 7, 2) := dk_16 7 (dk_at dksX6_roundOf_1 8 rfl rfl)
theorem dX6_roundOf_34 : decode cX6_roundOf 34 = .ok (.invokevirtual 78, 3) := dk_182 0 78 (dk_at dksX6_roundOf_1 10 rfl rfl)
theorem dX6_roundOf_37 : decode cX6_roundOf 37 = .ok (.ireturn, 1) := dk_172 (dk_at dksX6_roundOf_1 13 rfl rfl)
theorem dX6_roundOf_38 : decode cX6_roundOf 38 = .ok (.aload_n 0, 1) := dk_42 (dk_at dksX6_roundOf_1 14 rfl rfl)
theorem dX6_roundOf_39 : decode cX6_roundOf 39 = .ok (.iload_n 2, 1) := dk_28 (dk_at dksX6_roundOf_1 15 rfl rfl)
theorem dX6_roundOf_40 : decode cX6_roundOf 40 = .ok (.invokevirtual 339, 3) := dk_182 1 83 (dk_at dksX6_roundOf_1 16 rfl rfl)
theorem dX6_roundOf_43 : decode cX6_roundOf 43 = .ok (.pop, 1) := dk_87 (dk_at dksX6_roundOf_1 19 rfl rfl)
theorem dX6_roundOf_44 : decode cX6_roundOf 44 = .ok (.aload_n 0, 1) := dk_42 (dk_at dksX6_roundOf_1 20 rfl rfl)
theorem dX6_roundOf_45 : decode cX6_roundOf 45 = .ok (.getfield 47, 3) := dk_180 0 47 (dk_at dksX6_roundOf_1 21 rfl rfl)
theorem dX6_roundOf_48 : decode cX6_roundOf 48 = .ok (.iload_n 1, 1) := dk_27 (dk_at dksX6_roundOf_2 0 rfl rfl)
theorem dX6_roundOf_49 : decode cX6_roundOf 49 = .ok (.iaload, 1) := dk_46 (dk_at dksX6_roundOf_2 1 rfl rfl)
theorem dX6_roundOf_50 : decode cX6_roundOf 50 = .ok (.ifCond .ne 12, 3) := dk_154 0 12 (dk_at dksX6_roundOf_2 2 rfl rfl)
theorem dX6_roundOf_53 : decode cX6_roundOf 53 = .ok (.aload_n 0, 1) := dk_42 (dk_at dksX6_roundOf_2 5 rfl rfl)
theorem dX6_roundOf_54 : decode cX6_roundOf 54 = .ok (.bipush 6, 2) := dk_16 6 (dk_at dksX6_roundOf_2 6 rfl rfl)
theorem dX6_roundOf_56 : decode cX6_roundOf 56 = .ok (.invokevirtual 78, 3) := dk_182 0 78 (dk_at dksX6_roundOf_2 8 rfl rfl)
theorem dX6_roundOf_59 : decode cX6_roundOf 59 = .ok (.goto 13, 3) := dk_167 0 13 (dk_at dksX6_roundOf_2 11 rfl rfl)
theorem dX6_roundOf_62 : decode cX6_roundOf 62 = .ok (.aload_n 0, 1) := dk_42 (dk_at dksX6_roundOf_2 14 rfl rfl)
theorem dX6_roundOf_63 : decode cX6_roundOf 63 = .ok (.aload_n 0, 1) := dk_42 (dk_at dksX6_roundOf_2 15 rfl rfl)
theorem dX6_roundOf_64 : decode cX6_roundOf 64 = .ok (.getfield 47, 3) := dk_180 0 47 (dk_at dksX6_roundOf_2 16 rfl rfl)
theorem dX6_roundOf_67 : decode cX6_roundOf 67 = .ok (.iload_n 1, 1) := dk_27 (dk_at dksX6_roundOf_2 19 rfl rfl)
theorem dX6_roundOf_68 : decode cX6_roundOf 68 = .ok (.iaload, 1) := dk_46 (dk_at dksX6_roundOf_2 20 rfl rfl)
theorem dX6_roundOf_69 : decode cX6_roundOf 69 = .ok (.invokevirtual 82, 3) := dk_182 0 82 (dk_at dksX6_roundOf_2 21 rfl rfl)
theorem dX6_roundOf_72 : decode cX6_roundOf 72 = .ok (.ireturn, 1) := dk_172 (dk_at dksX6_roundOf_3 0 rfl rfl)
abbrev cX6_restOf : ByteArray := prog_15_method_76_code
def yX6_restOf : MethodName := ⟨RX6, "restOf", "(I)I"⟩
def dkwX6_restOf_0 : List UInt8 := [42, 42, 182, 1, 22, 27, 3, 16, 9, 182, 1, 52, 172]
abbrev dktX6_restOf_0 : List UInt8 := dkwX6_restOf_0 ++ []
theorem dksX6_restOf_0 : cX6_restOf.data.toList.drop 0 = dktX6_restOf_0 := by decide +kernel
theorem dX6_restOf_0 : decode cX6_restOf 0 = .ok (.aload_n 0, 1) := dk_42 (dk_at dksX6_restOf_0 0 rfl rfl)
theorem dX6_restOf_1 : decode cX6_restOf 1 = .ok (.aload_n 0, 1) := dk_42 (dk_at dksX6_restOf_0 1 rfl rfl)
theorem dX6_restOf_2 : decode cX6_restOf 2 = .ok (.invokevirtual 278, 3) := dk_182 1 22 (dk_at dksX6_restOf_0 2 rfl rfl)
theorem dX6_restOf_5 : decode cX6_restOf 5 = .ok (.iload_n 1, 1) := dk_27 (dk_at dksX6_restOf_0 5 rfl rfl)
theorem dX6_restOf_6 : decode cX6_restOf 6 = .ok (.iconst 0, 1) := dk_3 (dk_at dksX6_restOf_0 6 rfl rfl)
theorem dX6_restOf_7 : decode cX6_restOf 7 = .ok (.bipush 9, 2) := dk_16 9 (dk_at dksX6_restOf_0 7 rfl rfl)
theorem dX6_restOf_9 : decode cX6_restOf 9 = .ok (.invokevirtual 308, 3) := dk_182 1 52 (dk_at dksX6_restOf_0 9 rfl rfl)
theorem dX6_restOf_12 : decode cX6_restOf 12 = .ok (.ireturn, 1) := dk_172 (dk_at dksX6_restOf_0 12 rfl rfl)
abbrev cX6_outBy : ByteArray := prog_15_method_92_code
def yX6_outBy : MethodName := ⟨RX6, "outBy", "(I)I"⟩
def dkwX6_outBy_1 : List UInt8 := [4, 182, 0, 78, 172]
abbrev dktX6_outBy_1 : List UInt8 := dkwX6_outBy_1 ++ []
def dkwX6_outBy_0 : List UInt8 := [42, 27, 133, 182, 1, 79, 153, 0, 17, 42, 42, 42, 182, 1, 22, 27, 182, 1, 56, 182, 0, 82, 172, 42]
abbrev dktX6_outBy_0 : List UInt8 := dkwX6_outBy_0 ++ dktX6_outBy_1
theorem dksX6_outBy_0 : cX6_outBy.data.toList.drop 0 = dktX6_outBy_0 := by decide +kernel
theorem dksX6_outBy_1 : cX6_outBy.data.toList.drop 24 = dktX6_outBy_1 := dk_seg dksX6_outBy_0 24 rfl rfl
theorem dX6_outBy_0 : decode cX6_outBy 0 = .ok (.aload_n 0, 1) := dk_42 (dk_at dksX6_outBy_0 0 rfl rfl)
theorem dX6_outBy_1 : decode cX6_outBy 1 = .ok (.iload_n 1, 1) := dk_27 (dk_at dksX6_outBy_0 1 rfl rfl)
theorem dX6_outBy_2 : decode cX6_outBy 2 = .ok (.i2l, 1) := dk_133 (dk_at dksX6_outBy_0 2 rfl rfl)
theorem dX6_outBy_3 : decode cX6_outBy 3 = .ok (.invokevirtual 335, 3) := dk_182 1 79 (dk_at dksX6_outBy_0 3 rfl rfl)
theorem dX6_outBy_6 : decode cX6_outBy 6 = .ok (.ifCond .eq 17, 3) := dk_153 0 17 (dk_at dksX6_outBy_0 6 rfl rfl)
theorem dX6_outBy_9 : decode cX6_outBy 9 = .ok (.aload_n 0, 1) := dk_42 (dk_at dksX6_outBy_0 9 rfl rfl)
theorem dX6_outBy_10 : decode cX6_outBy 10 = .ok (.aload_n 0, 1) := dk_42 (dk_at dksX6_outBy_0 10 rfl rfl)
theorem dX6_outBy_11 : decode cX6_outBy 11 = .ok (.aload_n 0, 1) := dk_42 (dk_at dksX6_outBy_0 11 rfl rfl)
theorem dX6_outBy_12 : decode cX6_outBy 12 = .ok (.invokevirtual 278, 3) := dk_182 1 22 (dk_at dksX6_outBy_0 12 rfl rfl)
theorem dX6_outBy_15 : decode cX6_outBy 15 = .ok (.iload_n 1, 1) := dk_27 (dk_at dksX6_outBy_0 15 rfl rfl)
theorem dX6_outBy_16 : decode cX6_outBy 16 = .ok (.invokevirtual 312, 3) := dk_182 1 56 (dk_at dksX6_outBy_0 16 rfl rfl)
theorem dX6_outBy_19 : decode cX6_outBy 19 = .ok (.invokevirtual 82, 3) := dk_182 0 82 (dk_at dksX6_outBy_0 19 rfl rfl)
theorem dX6_outBy_22 : decode cX6_outBy 22 = .ok (.ireturn, 1) := dk_172 (dk_at dksX6_outBy_0 22 rfl rfl)
theorem dX6_outBy_23 : decode cX6_outBy 23 = .ok (.aload_n 0, 1) := dk_42 (dk_at dksX6_outBy_0 23 rfl rfl)
theorem dX6_outBy_24 : decode cX6_outBy 24 = .ok (.iconst 1, 1) := dk_4 (dk_at dksX6_outBy_1 0 rfl rfl)
theorem dX6_outBy_25 : decode cX6_outBy 25 = .ok (.invokevirtual 78, 3) := dk_182 0 78 (dk_at dksX6_outBy_1 1 rfl rfl)
theorem dX6_outBy_28 : decode cX6_outBy 28 = .ok (.ireturn, 1) := dk_172 (dk_at dksX6_outBy_1 4 rfl rfl)
abbrev cX6_restBy : ByteArray := prog_15_method_93_code
def yX6_restBy : MethodName := ⟨RX6, "restBy", "(I)I"⟩
def dkwX6_restBy_1 : List UInt8 := [172]
abbrev dktX6_restBy_1 : List UInt8 := dkwX6_restBy_1 ++ []
def dkwX6_restBy_0 : List UInt8 := [42, 27, 133, 182, 1, 79, 153, 0, 13, 42, 42, 27, 182, 1, 83, 182, 0, 82, 172, 42, 4, 182, 0, 78]
abbrev dktX6_restBy_0 : List UInt8 := dkwX6_restBy_0 ++ dktX6_restBy_1
theorem dksX6_restBy_0 : cX6_restBy.data.toList.drop 0 = dktX6_restBy_0 := by decide +kernel
theorem dksX6_restBy_1 : cX6_restBy.data.toList.drop 24 = dktX6_restBy_1 := dk_seg dksX6_restBy_0 24 rfl rfl
theorem dX6_restBy_0 : decode cX6_restBy 0 = .ok (.aload_n 0, 1) := dk_42 (dk_at dksX6_restBy_0 0 rfl rfl)
theorem dX6_restBy_1 : decode cX6_restBy 1 = .ok (.iload_n 1, 1) := dk_27 (dk_at dksX6_restBy_0 1 rfl rfl)
theorem dX6_restBy_2 : decode cX6_restBy 2 = .ok (.i2l, 1) := dk_133 (dk_at dksX6_restBy_0 2 rfl rfl)
theorem dX6_restBy_3 : decode cX6_restBy 3 = .ok (.invokevirtual 335, 3) := dk_182 1 79 (dk_at dksX6_restBy_0 3 rfl rfl)
theorem dX6_restBy_6 : decode cX6_restBy 6 = .ok (.ifCond .eq 13, 3) := dk_153 0 13 (dk_at dksX6_restBy_0 6 rfl rfl)
theorem dX6_restBy_9 : decode cX6_restBy 9 = .ok (.aload_n 0, 1) := dk_42 (dk_at dksX6_restBy_0 9 rfl rfl)
theorem dX6_restBy_10 : decode cX6_restBy 10 = .ok (.aload_n 0, 1) := dk_42 (dk_at dksX6_restBy_0 10 rfl rfl)
theorem dX6_restBy_11 : decode cX6_restBy 11 = .ok (.iload_n 1, 1) := dk_27 (dk_at dksX6_restBy_0 11 rfl rfl)
theorem dX6_restBy_12 : decode cX6_restBy 12 = .ok (.invokevirtual 339, 3) := dk_182 1 83 (dk_at dksX6_restBy_0 12 rfl rfl)
theorem dX6_restBy_15 : decode cX6_restBy 15 = .ok (.invokevirtual 82, 3) := dk_182 0 82 (dk_at dksX6_restBy_0 15 rfl rfl)
theorem dX6_restBy_18 : decode cX6_restBy 18 = .ok (.ireturn, 1) := dk_172 (dk_at dksX6_restBy_0 18 rfl rfl)
theorem dX6_restBy_19 : decode cX6_restBy 19 = .ok (.aload_n 0, 1) := dk_42 (dk_at dksX6_restBy_0 19 rfl rfl)
theorem dX6_restBy_20 : decode cX6_restBy 20 = .ok (.iconst 1, 1) := dk_4 (dk_at dksX6_restBy_0 20 rfl rfl)
theorem dX6_restBy_21 : decode cX6_restBy 21 = .ok (.invokevirtual 78, 3) := dk_182 0 78 (dk_at dksX6_restBy_0 21 rfl rfl)
theorem dX6_restBy_24 : decode cX6_restBy 24 = .ok (.ireturn, 1) := dk_172 (dk_at dksX6_restBy_1 0 rfl rfl)
abbrev cX6_rounds : ByteArray := prog_15_method_94_code
def yX6_rounds : MethodName := ⟨RX6, "rounds", "(I)I"⟩
def dkwX6_rounds_1 : List UInt8 := [180, 1, 46, 182, 0, 82, 172]
abbrev dktX6_rounds_1 : List UInt8 := dkwX6_rounds_1 ++ []
def dkwX6_rounds_0 : List UInt8 := [42, 27, 133, 182, 1, 79, 154, 0, 9, 42, 4, 182, 0, 78, 172, 42, 27, 182, 1, 83, 87, 42, 42]
abbrev dktX6_rounds_0 : List UInt8 := dkwX6_rounds_0 ++ dktX6_rounds_1
theorem dksX6_rounds_0 : cX6_rounds.data.toList.drop 0 = dktX6_rounds_0 := by decide +kernel
theorem dksX6_rounds_1 : cX6_rounds.data.toList.drop 23 = dktX6_rounds_1 := dk_seg dksX6_rounds_0 23 rfl rfl
theorem dX6_rounds_0 : decode cX6_rounds 0 = .ok (.aload_n 0, 1) := dk_42 (dk_at dksX6_rounds_0 0 rfl rfl)
theorem dX6_rounds_1 : decode cX6_rounds 1 = .ok (.iload_n 1, 1) := dk_27 (dk_at dksX6_rounds_0 1 rfl rfl)
theorem dX6_rounds_2 : decode cX6_rounds 2 = .ok (.i2l, 1) := dk_133 (dk_at dksX6_rounds_0 2 rfl rfl)
theorem dX6_rounds_3 : decode cX6_rounds 3 = .ok (.invokevirtual 335, 3) := dk_182 1 79 (dk_at dksX6_rounds_0 3 rfl rfl)
theorem dX6_rounds_6 : decode cX6_rounds 6 = .ok (.ifCond .ne 9, 3) := dk_154 0 9 (dk_at dksX6_rounds_0 6 rfl rfl)
theorem dX6_rounds_9 : decode cX6_rounds 9 = .ok (.aload_n 0, 1) := dk_42 (dk_at dksX6_rounds_0 9 rfl rfl)
theorem dX6_rounds_10 : decode cX6_rounds 10 = .ok (.iconst 1, 1) := dk_4 (dk_at dksX6_rounds_0 10 rfl rfl)
theorem dX6_rounds_11 : decode cX6_rounds 11 = .ok (.invokevirtual 78, 3) := dk_182 0 78 (dk_at dksX6_rounds_0 11 rfl rfl)
theorem dX6_rounds_14 : decode cX6_rounds 14 = .ok (.ireturn, 1) := dk_172 (dk_at dksX6_rounds_0 14 rfl rfl)
theorem dX6_rounds_15 : decode cX6_rounds 15 = .ok (.aload_n 0, 1) := dk_42 (dk_at dksX6_rounds_0 15 rfl rfl)
theorem dX6_rounds_16 : decode cX6_rounds 16 = .ok (.iload_n 1, 1) := dk_27 (dk_at dksX6_rounds_0 16 rfl rfl)
theorem dX6_rounds_17 : decode cX6_rounds 17 = .ok (.invokevirtual 339, 3) := dk_182 1 83 (dk_at dksX6_rounds_0 17 rfl rfl)
theorem dX6_rounds_20 : decode cX6_rounds 20 = .ok (.pop, 1) := dk_87 (dk_at dksX6_rounds_0 20 rfl rfl)
theorem dX6_rounds_21 : decode cX6_rounds 21 = .ok (.aload_n 0, 1) := dk_42 (dk_at dksX6_rounds_0 21 rfl rfl)
theorem dX6_rounds_22 : decode cX6_rounds 22 = .ok (.aload_n 0, 1) := dk_42 (dk_at dksX6_rounds_0 22 rfl rfl)
theorem dX6_rounds_23 : decode cX6_rounds 23 = .ok (.getfield 302, 3) := dk_180 1 46 (dk_at dksX6_rounds_1 0 rfl rfl)
theorem dX6_rounds_26 : decode cX6_rounds 26 = .ok (.invokevirtual 82, 3) := dk_182 0 82 (dk_at dksX6_rounds_1 3 rfl rfl)
theorem dX6_rounds_29 : decode cX6_rounds 29 = .ok (.ireturn, 1) := dk_172 (dk_at dksX6_rounds_1 6 rfl rfl)
abbrev cX6_atRest : ByteArray := prog_15_method_96_code
def yX6_atRest : MethodName := ⟨RX6, "atRest", "(II)I"⟩
def dkwX6_atRest_2 : List UInt8 := [182, 1, 89, 153, 0, 7, 4, 167, 0, 4, 3, 182, 0, 82, 172]
abbrev dktX6_atRest_2 : List UInt8 := dkwX6_atRest_2 ++ []
def dkwX6_atRest_1 : List UInt8 := [27, 42, 180, 0, 7, 16, 7, 46, 126, 153, 0, 10, 42, 16, 7, 182, 0, 78, 172, 42, 42, 27, 28]
abbrev dktX6_atRest_1 : List UInt8 := dkwX6_atRest_1 ++ dktX6_atRest_2
def dkwX6_atRest_0 : List UInt8 := [42, 27, 133, 182, 1, 86, 153, 0, 12, 42, 28, 133, 182, 1, 79, 154, 0, 9, 42, 4, 182, 0, 78, 172]
abbrev dktX6_atRest_0 : List UInt8 := dkwX6_atRest_0 ++ dktX6_atRest_1
theorem dksX6_atRest_0 : cX6_atRest.data.toList.drop 0 = dktX6_atRest_0 := by decide +kernel
theorem dksX6_atRest_1 : cX6_atRest.data.toList.drop 24 = dktX6_atRest_1 := dk_seg dksX6_atRest_0 24 rfl rfl
theorem dksX6_atRest_2 : cX6_atRest.data.toList.drop 47 = dktX6_atRest_2 := dk_seg dksX6_atRest_1 23 rfl rfl
theorem dX6_atRest_0 : decode cX6_atRest 0 = .ok (.aload_n 0, 1) := dk_42 (dk_at dksX6_atRest_0 0 rfl rfl)
theorem dX6_atRest_1 : decode cX6_atRest 1 = .ok (.iload_n 1, 1) := dk_27 (dk_at dksX6_atRest_0 1 rfl rfl)
theorem dX6_atRest_2 : decode cX6_atRest 2 = .ok (.i2l, 1) := dk_133 (dk_at dksX6_atRest_0 2 rfl rfl)
theorem dX6_atRest_3 : decode cX6_atRest 3 = .ok (.invokevirtual 342, 3) := dk_182 1 86 (dk_at dksX6_atRest_0 3 rfl rfl)
theorem dX6_atRest_6 : decode cX6_atRest 6 = .ok (.ifCond .eq 12, 3) := dk_153 0 12 (dk_at dksX6_atRest_0 6 rfl rfl)
theorem dX6_atRest_9 : decode cX6_atRest 9 = .ok (.aload_n 0, 1) := dk_42 (dk_at dksX6_atRest_0 9 rfl rfl)
theorem dX6_atRest_10 : decode cX6_atRest 10 = .ok (.iload_n 2, 1) := dk_28 (dk_at dksX6_atRest_0 10 rfl rfl)
theorem dX6_atRest_11 : decode cX6_atRest 11 = .ok (.i2l, 1) := dk_133 (dk_at dksX6_atRest_0 11 rfl rfl)
theorem dX6_atRest_12 : decode cX6_atRest 12 = .ok (.invokevirtual 335, 3) := dk_182 1 79 (dk_at dksX6_atRest_0 12 rfl rfl)
theorem dX6_atRest_15 : decode cX6_atRest 15 = .ok (.ifCond .ne 9, 3) := dk_154 0 9 (dk_at dksX6_atRest_0 15 rfl rfl)
theorem dX6_atRest_18 : decode cX6_atRest 18 = .ok (.aload_n 0, 1) := dk_42 (dk_at dksX6_atRest_0 18 rfl rfl)
theorem dX6_atRest_19 : decode cX6_atRest 19 = .ok (.iconst 1, 1) := dk_4 (dk_at dksX6_atRest_0 19 rfl rfl)
theorem dX6_atRest_20 : decode cX6_atRest 20 = .ok (.invokevirtual 78, 3) := dk_182 0 78 (dk_at dksX6_atRest_0 20 rfl rfl)
theorem dX6_atRest_23 : decode cX6_atRest 23 = .ok (.ireturn, 1) := dk_172 (dk_at dksX6_atRest_0 23 rfl rfl)
theorem dX6_atRest_24 : decode cX6_atRest 24 = .ok (.iload_n 1, 1) := dk_27 (dk_at dksX6_atRest_1 0 rfl rfl)
theorem dX6_atRest_25 : decode cX6_atRest 25 = .ok (.aload_n 0, 1) := dk_42 (dk_at dksX6_atRest_1 1 rfl rfl)
theorem dX6_atRest_26 : decode cX6_atRest 26 = .ok (.getfield 7, 3) := dk_180 0 7 (dk_at dksX6_atRest_1 2 rfl rfl)
theorem dX6_atRest_29 : decode cX6_atRest 29 = .ok (.bipush 7, 2) := dk_16 7 (dk_at dksX6_atRest_1 5 rfl rfl)
theorem dX6_atRest_31 : decode cX6_atRest 31 = .ok (.iaload, 1) := dk_46 (dk_at dksX6_atRest_1 7 rfl rfl)
theorem dX6_atRest_32 : decode cX6_atRest 32 = .ok (.iand, 1) := dk_126 (dk_at dksX6_atRest_1 8 rfl rfl)
theorem dX6_atRest_33 : decode cX6_atRest 33 = .ok (.ifCond .eq 10, 3) := dk_153 0 10 (dk_at dksX6_atRest_1 9 rfl rfl)
theorem dX6_atRest_36 : decode cX6_atRest 36 = .ok (.aload_n 0, 1) := dk_42 (dk_at dksX6_atRest_1 12 rfl rfl)
theorem dX6_atRest_37 : decode cX6_atRest 37 = .ok (.bipush 7, 2) := dk_16 7 (dk_at dksX6_atRest_1 13 rfl rfl)
theorem dX6_atRest_39 : decode cX6_atRest 39 = .ok (.invokevirtual 78, 3) := dk_182 0 78 (dk_at dksX6_atRest_1 15 rfl rfl)
theorem dX6_atRest_42 : decode cX6_atRest 42 = .ok (.ireturn, 1) := dk_172 (dk_at dksX6_atRest_1 18 rfl rfl)
theorem dX6_atRest_43 : decode cX6_atRest 43 = .ok (.aload_n 0, 1) := dk_42 (dk_at dksX6_atRest_1 19 rfl rfl)
theorem dX6_atRest_44 : decode cX6_atRest 44 = .ok (.aload_n 0, 1) := dk_42 (dk_at dksX6_atRest_1 20 rfl rfl)
theorem dX6_atRest_45 : decode cX6_atRest 45 = .ok (.iload_n 1, 1) := dk_27 (dk_at dksX6_atRest_1 21 rfl rfl)
theorem dX6_atRest_46 : decode cX6_atRest 46 = .ok (.iload_n 2, 1) := dk_28 (dk_at dksX6_atRest_1 22 rfl rfl)
theorem dX6_atRest_47 : decode cX6_atRest 47 = .ok (.invokevirtual 345, 3) := dk_182 1 89 (dk_at dksX6_atRest_2 0 rfl rfl)
theorem dX6_atRest_50 : decode cX6_atRest 50 = .ok (.ifCond .eq 7, 3) := dk_153 0 7 (dk_at dksX6_atRest_2 3 rfl rfl)
theorem dX6_atRest_53 : decode cX6_atRest 53 = .ok (.iconst 1, 1) := dk_4 (dk_at dksX6_atRest_2 6 rfl rfl)
theorem dX6_atRest_54 : decode cX6_atRest 54 = .ok (.goto 4, 3) := dk_167 0 4 (dk_at dksX6_atRest_2 7 rfl rfl)
theorem dX6_atRest_57 : decode cX6_atRest 57 = .ok (.iconst 0, 1) := dk_3 (dk_at dksX6_atRest_2 10 rfl rfl)
theorem dX6_atRest_58 : decode cX6_atRest 58 = .ok (.invokevirtual 82, 3) := dk_182 0 82 (dk_at dksX6_atRest_2 11 rfl rfl)
theorem dX6_atRest_61 : decode cX6_atRest 61 = .ok (.ireturn, 1) := dk_172 (dk_at dksX6_atRest_2 14 rfl rfl)
abbrev cX6_arePeople : ByteArray := prog_15_method_59_code
def yX6_arePeople : MethodName := ⟨RX6, "arePeople", "(J)Z"⟩
def dkwX6_arePeople_0 : List UInt8 := [31, 9, 42, 182, 1, 4, 133, 184, 1, 0, 172]
abbrev dktX6_arePeople_0 : List UInt8 := dkwX6_arePeople_0 ++ []
theorem dksX6_arePeople_0 : cX6_arePeople.data.toList.drop 0 = dktX6_arePeople_0 := by decide +kernel
theorem dX6_arePeople_0 : decode cX6_arePeople 0 = .ok (.lload_n 1, 1) := dk_31 (dk_at dksX6_arePeople_0 0 rfl rfl)
theorem dX6_arePeople_1 : decode cX6_arePeople 1 = .ok (.lconst 0, 1) := dk_9 (dk_at dksX6_arePeople_0 1 rfl rfl)
theorem dX6_arePeople_2 : decode cX6_arePeople 2 = .ok (.aload_n 0, 1) := dk_42 (dk_at dksX6_arePeople_0 2 rfl rfl)
theorem dX6_arePeople_3 : decode cX6_arePeople 3 = .ok (.invokevirtual 260, 3) := dk_182 1 4 (dk_at dksX6_arePeople_0 3 rfl rfl)
theorem dX6_arePeople_6 : decode cX6_arePeople 6 = .ok (.i2l, 1) := dk_133 (dk_at dksX6_arePeople_0 6 rfl rfl)
theorem dX6_arePeople_7 : decode cX6_arePeople 7 = .ok (.invokestatic 256, 3) := dk_184 1 0 (dk_at dksX6_arePeople_0 7 rfl rfl)
theorem dX6_arePeople_10 : decode cX6_arePeople 10 = .ok (.ireturn, 1) := dk_172 (dk_at dksX6_arePeople_0 10 rfl rfl)
abbrev cX6_isRest : ByteArray := prog_15_method_95_code
def yX6_isRest : MethodName := ⟨RX6, "isRest", "(II)Z"⟩
def dkwX6_isRest_2 : List UInt8 := [167, 0, 4, 3, 159, 0, 5, 3, 172, 132, 3, 1, 167, 255, 200, 4, 172]
abbrev dktX6_isRest_2 : List UInt8 := dkwX6_isRest_2 ++ []
def dkwX6_isRest_1 : List UInt8 := [182, 1, 7, 42, 29, 182, 1, 13, 27, 126, 184, 1, 49, 42, 29, 28, 182, 1, 37, 161, 0, 7, 4]
abbrev dktX6_isRest_1 : List UInt8 := dkwX6_isRest_1 ++ dktX6_isRest_2
def dkwX6_isRest_0 : List UInt8 := [3, 62, 29, 42, 180, 0, 7, 4, 46, 162, 0, 52, 42, 29, 182, 1, 40, 154, 0, 38, 42, 27, 29]
abbrev dktX6_isRest_0 : List UInt8 := dkwX6_isRest_0 ++ dktX6_isRest_1
theorem dksX6_isRest_0 : cX6_isRest.data.toList.drop 0 = dktX6_isRest_0 := by decide +kernel
theorem dksX6_isRest_1 : cX6_isRest.data.toList.drop 23 = dktX6_isRest_1 := dk_seg dksX6_isRest_0 23 rfl rfl
theorem dksX6_isRest_2 : cX6_isRest.data.toList.drop 46 = dktX6_isRest_2 := dk_seg dksX6_isRest_1 23 rfl rfl
theorem dX6_isRest_0 : decode cX6_isRest 0 = .ok (.iconst 0, 1) := dk_3 (dk_at dksX6_isRest_0 0 rfl rfl)
theorem dX6_isRest_1 : decode cX6_isRest 1 = .ok (.istore_n 3, 1) := dk_62 (dk_at dksX6_isRest_0 1 rfl rfl)
theorem dX6_isRest_2 : decode cX6_isRest 2 = .ok (.iload_n 3, 1) := dk_29 (dk_at dksX6_isRest_0 2 rfl rfl)
theorem dX6_isRest_3 : decode cX6_isRest 3 = .ok (.aload_n 0, 1) := dk_42 (dk_at dksX6_isRest_0 3 rfl rfl)
theorem dX6_isRest_4 : decode cX6_isRest 4 = .ok (.getfield 7, 3) := dk_180 0 7 (dk_at dksX6_isRest_0 4 rfl rfl)
theorem dX6_isRest_7 : decode cX6_isRest 7 = .ok (.iconst 1, 1) := dk_4 (dk_at dksX6_isRest_0 7 rfl rfl)
theorem dX6_isRest_8 : decode cX6_isRest 8 = .ok (.iaload, 1) := dk_46 (dk_at dksX6_isRest_0 8 rfl rfl)
theorem dX6_isRest_9 : decode cX6_isRest 9 = .ok (.if_icmp .ge 52, 3) := dk_162 0 52 (dk_at dksX6_isRest_0 9 rfl rfl)
theorem dX6_isRest_12 : decode cX6_isRest 12 = .ok (.aload_n 0, 1) := dk_42 (dk_at dksX6_isRest_0 12 rfl rfl)
theorem dX6_isRest_13 : decode cX6_isRest 13 = .ok (.iload_n 3, 1) := dk_29 (dk_at dksX6_isRest_0 13 rfl rfl)
theorem dX6_isRest_14 : decode cX6_isRest 14 = .ok (.invokevirtual 296, 3) := dk_182 1 40 (dk_at dksX6_isRest_0 14 rfl rfl)
theorem dX6_isRest_17 : decode cX6_isRest 17 = .ok (.ifCond .ne 38, 3) := dk_154 0 38 (dk_at dksX6_isRest_0 17 rfl rfl)
theorem dX6_isRest_20 : decode cX6_isRest 20 = .ok (.aload_n 0, 1) := dk_42 (dk_at dksX6_isRest_0 20 rfl rfl)
theorem dX6_isRest_21 : decode cX6_isRest 21 = .ok (.iload_n 1, 1) := dk_27 (dk_at dksX6_isRest_0 21 rfl rfl)
theorem dX6_isRest_22 : decode cX6_isRest 22 = .ok (.iload_n 3, 1) := dk_29 (dk_at dksX6_isRest_0 22 rfl rfl)
theorem dX6_isRest_23 : decode cX6_isRest 23 = .ok (.invokevirtual 263, 3) := dk_182 1 7 (dk_at dksX6_isRest_1 0 rfl rfl)
theorem dX6_isRest_26 : decode cX6_isRest 26 = .ok (.aload_n 0, 1) := dk_42 (dk_at dksX6_isRest_1 3 rfl rfl)
theorem dX6_isRest_27 : decode cX6_isRest 27 = .ok (.iload_n 3, 1) := dk_29 (dk_at dksX6_isRest_1 4 rfl rfl)
theorem dX6_isRest_28 : decode cX6_isRest 28 = .ok (.invokevirtual 269, 3) := dk_182 1 13 (dk_at dksX6_isRest_1 5 rfl rfl)
theorem dX6_isRest_31 : decode cX6_isRest 31 = .ok (.iload_n 1, 1) := dk_27 (dk_at dksX6_isRest_1 8 rfl rfl)
theorem dX6_isRest_32 : decode cX6_isRest 32 = .ok (.iand, 1) := dk_126 (dk_at dksX6_isRest_1 9 rfl rfl)
theorem dX6_isRest_33 : decode cX6_isRest 33 = .ok (.invokestatic 305, 3) := dk_184 1 49 (dk_at dksX6_isRest_1 10 rfl rfl)
theorem dX6_isRest_36 : decode cX6_isRest 36 = .ok (.aload_n 0, 1) := dk_42 (dk_at dksX6_isRest_1 13 rfl rfl)
theorem dX6_isRest_37 : decode cX6_isRest 37 = .ok (.iload_n 3, 1) := dk_29 (dk_at dksX6_isRest_1 14 rfl rfl)
theorem dX6_isRest_38 : decode cX6_isRest 38 = .ok (.iload_n 2, 1) := dk_28 (dk_at dksX6_isRest_1 15 rfl rfl)
theorem dX6_isRest_39 : decode cX6_isRest 39 = .ok (.invokevirtual 293, 3) := dk_182 1 37 (dk_at dksX6_isRest_1 16 rfl rfl)
theorem dX6_isRest_42 : decode cX6_isRest 42 = .ok (.if_icmp .lt 7, 3) := dk_161 0 7 (dk_at dksX6_isRest_1 19 rfl rfl)
theorem dX6_isRest_45 : decode cX6_isRest 45 = .ok (.iconst 1, 1) := dk_4 (dk_at dksX6_isRest_1 22 rfl rfl)
theorem dX6_isRest_46 : decode cX6_isRest 46 = .ok (.goto 4, 3) := dk_167 0 4 (dk_at dksX6_isRest_2 0 rfl rfl)
theorem dX6_isRest_49 : decode cX6_isRest 49 = .ok (.iconst 0, 1) := dk_3 (dk_at dksX6_isRest_2 3 rfl rfl)
theorem dX6_isRest_50 : decode cX6_isRest 50 = .ok (.if_icmp .eq 5, 3) := dk_159 0 5 (dk_at dksX6_isRest_2 4 rfl rfl)
theorem dX6_isRest_53 : decode cX6_isRest 53 = .ok (.iconst 0, 1) := dk_3 (dk_at dksX6_isRest_2 7 rfl rfl)
theorem dX6_isRest_54 : decode cX6_isRest 54 = .ok (.ireturn, 1) := dk_172 (dk_at dksX6_isRest_2 8 rfl rfl)
theorem dX6_isRest_55 : decode cX6_isRest 55 = .ok (.iinc 3 1, 3) := dk_132 3 1 (dk_at dksX6_isRest_2 9 rfl rfl)
theorem dX6_isRest_58 : decode cX6_isRest 58 = .ok (.goto (-56), 3) := dk_167 255 200 (dk_at dksX6_isRest_2 12 rfl rfl)
theorem dX6_isRest_61 : decode cX6_isRest 61 = .ok (.iconst 1, 1) := dk_4 (dk_at dksX6_isRest_2 15 rfl rfl)
theorem dX6_isRest_62 : decode cX6_isRest 62 = .ok (.ireturn, 1) := dk_172 (dk_at dksX6_isRest_2 16 rfl rfl)
abbrev cX6_rests : ByteArray := prog_15_method_97_code
def yX6_rests : MethodName := ⟨RX6, "rests", "(I)I"⟩
def dkwX6_rests_2 : List UInt8 := [153, 0, 7, 4, 167, 0, 4, 3, 96, 61, 132, 3, 1, 167, 255, 216, 42, 28, 182, 0, 82, 172]
abbrev dktX6_rests_2 : List UInt8 := dkwX6_rests_2 ++ []
def dkwX6_rests_1 : List UInt8 := [163, 0, 38, 28, 29, 42, 180, 0, 7, 16, 7, 46, 126, 154, 0, 16, 42, 29, 27, 182, 1, 89]
abbrev dktX6_rests_1 : List UInt8 := dkwX6_rests_1 ++ dktX6_rests_2
def dkwX6_rests_0 : List UInt8 := [42, 27, 133, 182, 1, 79, 154, 0, 9, 42, 4, 182, 0, 78, 172, 3, 61, 3, 62, 29, 42, 182, 1, 4]
abbrev dktX6_rests_0 : List UInt8 := dkwX6_rests_0 ++ dktX6_rests_1
theorem dksX6_rests_0 : cX6_rests.data.toList.drop 0 = dktX6_rests_0 := by decide +kernel
theorem dksX6_rests_1 : cX6_rests.data.toList.drop 24 = dktX6_rests_1 := dk_seg dksX6_rests_0 24 rfl rfl
theorem dksX6_rests_2 : cX6_rests.data.toList.drop 46 = dktX6_rests_2 := dk_seg dksX6_rests_1 22 rfl rfl
theorem dX6_rests_0 : decode cX6_rests 0 = .ok (.aload_n 0, 1) := dk_42 (dk_at dksX6_rests_0 0 rfl rfl)
theorem dX6_rests_1 : decode cX6_rests 1 = .ok (.iload_n 1, 1) := dk_27 (dk_at dksX6_rests_0 1 rfl rfl)
theorem dX6_rests_2 : decode cX6_rests 2 = .ok (.i2l, 1) := dk_133 (dk_at dksX6_rests_0 2 rfl rfl)
theorem dX6_rests_3 : decode cX6_rests 3 = .ok (.invokevirtual 335, 3) := dk_182 1 79 (dk_at dksX6_rests_0 3 rfl rfl)
theorem dX6_rests_6 : decode cX6_rests 6 = .ok (.ifCond .ne 9, 3) := dk_154 0 9 (dk_at dksX6_rests_0 6 rfl rfl)
theorem dX6_rests_9 : decode cX6_rests 9 = .ok (.aload_n 0, 1) := dk_42 (dk_at dksX6_rests_0 9 rfl rfl)
theorem dX6_rests_10 : decode cX6_rests 10 = .ok (.iconst 1, 1) := dk_4 (dk_at dksX6_rests_0 10 rfl rfl)
theorem dX6_rests_11 : decode cX6_rests 11 = .ok (.invokevirtual 78, 3) := dk_182 0 78 (dk_at dksX6_rests_0 11 rfl rfl)
theorem dX6_rests_14 : decode cX6_rests 14 = .ok (.ireturn, 1) := dk_172 (dk_at dksX6_rests_0 14 rfl rfl)
theorem dX6_rests_15 : decode cX6_rests 15 = .ok (.iconst 0, 1) := dk_3 (dk_at dksX6_rests_0 15 rfl rfl)
theorem dX6_rests_16 : decode cX6_rests 16 = .ok (.istore_n 2, 1) := dk_61 (dk_at dksX6_rests_0 16 rfl rfl)
theorem dX6_rests_17 : decode cX6_rests 17 = .ok (.iconst 0, 1) := dk_3 (dk_at dksX6_rests_0 17 rfl rfl)
theorem dX6_rests_18 : decode cX6_rests 18 = .ok (.istore_n 3, 1) := dk_62 (dk_at dksX6_rests_0 18 rfl rfl)
theorem dX6_rests_19 : decode cX6_rests 19 = .ok (.iload_n 3, 1) := dk_29 (dk_at dksX6_rests_0 19 rfl rfl)
theorem dX6_rests_20 : decode cX6_rests 20 = .ok (.aload_n 0, 1) := dk_42 (dk_at dksX6_rests_0 20 rfl rfl)
theorem dX6_rests_21 : decode cX6_rests 21 = .ok (.invokevirtual 260, 3) := dk_182 1 4 (dk_at dksX6_rests_0 21 rfl rfl)
theorem dX6_rests_24 : decode cX6_rests 24 = .ok (.if_icmp .gt 38, 3) := dk_163 0 38 (dk_at dksX6_rests_1 0 rfl rfl)
theorem dX6_rests_27 : decode cX6_rests 27 = .ok (.iload_n 2, 1) := dk_28 (dk_at dksX6_rests_1 3 rfl rfl)
theorem dX6_rests_28 : decode cX6_rests 28 = .ok (.iload_n 3, 1) := dk_29 (dk_at dksX6_rests_1 4 rfl rfl)
theorem dX6_rests_29 : decode cX6_rests 29 = .ok (.aload_n 0, 1) := dk_42 (dk_at dksX6_rests_1 5 rfl rfl)
theorem dX6_rests_30 : decode cX6_rests 30 = .ok (.getfield 7, 3) := dk_180 0 7 (dk_at dksX6_rests_1 6 rfl rfl)
theorem dX6_rests_33 : decode cX6_rests 33 = .ok (.bipush 7, 2) := dk_16 7 (dk_at dksX6_rests_1 9 rfl rfl)
theorem dX6_rests_35 : decode cX6_rests 35 = .ok (.iaload, 1) := dk_46 (dk_at dksX6_rests_1 11 rfl rfl)
theorem dX6_rests_36 : decode cX6_rests 36 = .ok (.iand, 1) := dk_126 (dk_at dksX6_rests_1 12 rfl rfl)
theorem dX6_rests_37 : decode cX6_rests 37 = .ok (.ifCond .ne 16, 3) := dk_154 0 16 (dk_at dksX6_rests_1 13 rfl rfl)
theorem dX6_rests_40 : decode cX6_rests 40 = .ok (.aload_n 0, 1) := dk_42 (dk_at dksX6_rests_1 16 rfl rfl)
theorem dX6_rests_41 : decode cX6_rests 41 = .ok (.iload_n 3, 1) := dk_29 (dk_at dksX6_rests_1 17 rfl rfl)
theorem dX6_rests_42 : decode cX6_rests 42 = .ok (.iload_n 1, 1) := dk_27 (dk_at dksX6_rests_1 18 rfl rfl)
theorem dX6_rests_43 : decode cX6_rests 43 = .ok (.invokevirtual 345, 3) := dk_182 1 89 (dk_at dksX6_rests_1 19 rfl rfl)
theorem dX6_rests_46 : decode cX6_rests 46 = .ok (.ifCond .eq 7, 3) := dk_153 0 7 (dk_at dksX6_rests_2 0 rfl rfl)
theorem dX6_rests_49 : decode cX6_rests 49 = .ok (.iconst 1, 1) := dk_4 (dk_at dksX6_rests_2 3 rfl rfl)
theorem dX6_rests_50 : decode cX6_rests 50 = .ok (.goto 4, 3) := dk_167 0 4 (dk_at dksX6_rests_2 4 rfl rfl)
theorem dX6_rests_53 : decode cX6_rests 53 = .ok (.iconst 0, 1) := dk_3 (dk_at dksX6_rests_2 7 rfl rfl)
theorem dX6_rests_54 : decode cX6_rests 54 = .ok (.iadd, 1) := dk_96 (dk_at dksX6_rests_2 8 rfl rfl)
theorem dX6_rests_55 : decode cX6_rests 55 = .ok (.istore_n 2, 1) := dk_61 (dk_at dksX6_rests_2 9 rfl rfl)
theorem dX6_rests_56 : decode cX6_rests 56 = .ok (.iinc 3 1, 3) := dk_132 3 1 (dk_at dksX6_rests_2 10 rfl rfl)
theorem dX6_rests_59 : decode cX6_rests 59 = .ok (.goto (-40), 3) := dk_167 255 216 (dk_at dksX6_rests_2 13 rfl rfl)
theorem dX6_rests_62 : decode cX6_rests 62 = .ok (.aload_n 0, 1) := dk_42 (dk_at dksX6_rests_2 16 rfl rfl)
theorem dX6_rests_63 : decode cX6_rests 63 = .ok (.iload_n 2, 1) := dk_28 (dk_at dksX6_rests_2 17 rfl rfl)
theorem dX6_rests_64 : decode cX6_rests 64 = .ok (.invokevirtual 82, 3) := dk_182 0 82 (dk_at dksX6_rests_2 18 rfl rfl)
theorem dX6_rests_67 : decode cX6_rests 67 = .ok (.ireturn, 1) := dk_172 (dk_at dksX6_rests_2 21 rfl rfl)
abbrev cX6_greatest : ByteArray := prog_15_method_98_code
def yX6_greatest : MethodName := ⟨RX6, "greatest", "(I)I"⟩
def dkwX6_greatest_4 : List UInt8 := [2, 130, 126, 61, 132, 3, 1, 167, 255, 177, 42, 28, 182, 0, 82, 172]
abbrev dktX6_greatest_4 : List UInt8 := dkwX6_greatest_4 ++ []
def dkwX6_greatest_3 : List UInt8 := [182, 1, 37, 162, 0, 12, 21, 4, 4, 21, 5, 120, 128, 54, 4, 132, 5, 1, 167, 255, 202, 28, 21, 4]
abbrev dktX6_greatest_3 : List UInt8 := dkwX6_greatest_3 ++ dktX6_greatest_4
def dkwX6_greatest_2 : List UInt8 := [21, 5, 182, 1, 7, 153, 0, 33, 42, 21, 5, 182, 1, 13, 28, 126, 184, 1, 49, 42, 21, 5, 27]
abbrev dktX6_greatest_2 : List UInt8 := dkwX6_greatest_2 ++ dktX6_greatest_3
def dkwX6_greatest_1 : List UInt8 := [16, 8, 163, 0, 79, 3, 54, 4, 3, 54, 5, 21, 5, 42, 180, 0, 7, 4, 46, 162, 0, 49, 42, 28]
abbrev dktX6_greatest_1 : List UInt8 := dkwX6_greatest_1 ++ dktX6_greatest_2
def dkwX6_greatest_0 : List UInt8 := [42, 27, 133, 182, 1, 79, 154, 0, 9, 42, 4, 182, 0, 78, 172, 42, 182, 1, 22, 61, 3, 62, 29]
abbrev dktX6_greatest_0 : List UInt8 := dkwX6_greatest_0 ++ dktX6_greatest_1
theorem dksX6_greatest_0 : cX6_greatest.data.toList.drop 0 = dktX6_greatest_0 := by decide +kernel
theorem dksX6_greatest_1 : cX6_greatest.data.toList.drop 23 = dktX6_greatest_1 := dk_seg dksX6_greatest_0 23 rfl rfl
theorem dksX6_greatest_2 : cX6_greatest.data.toList.drop 47 = dktX6_greatest_2 := dk_seg dksX6_greatest_1 24 rfl rfl
theorem dksX6_greatest_3 : cX6_greatest.data.toList.drop 70 = dktX6_greatest_3 := dk_seg dksX6_greatest_2 23 rfl rfl
theorem dksX6_greatest_4 : cX6_greatest.data.toList.drop 94 = dktX6_greatest_4 := dk_seg dksX6_greatest_3 24 rfl rfl
theorem dX6_greatest_0 : decode cX6_greatest 0 = .ok (.aload_n 0, 1) := dk_42 (dk_at dksX6_greatest_0 0 rfl rfl)
theorem dX6_greatest_1 : decode cX6_greatest 1 = .ok (.iload_n 1, 1) := dk_27 (dk_at dksX6_greatest_0 1 rfl rfl)
theorem dX6_greatest_2 : decode cX6_greatest 2 = .ok (.i2l, 1) := dk_133 (dk_at dksX6_greatest_0 2 rfl rfl)
theorem dX6_greatest_3 : decode cX6_greatest 3 = .ok (.invokevirtual 335, 3) := dk_182 1 79 (dk_at dksX6_greatest_0 3 rfl rfl)
theorem dX6_greatest_6 : decode cX6_greatest 6 = .ok (.ifCond .ne 9, 3) := dk_154 0 9 (dk_at dksX6_greatest_0 6 rfl rfl)
theorem dX6_greatest_9 : decode cX6_greatest 9 = .ok (.aload_n 0, 1) := dk_42 (dk_at dksX6_greatest_0 9 rfl rfl)
theorem dX6_greatest_10 : decode cX6_greatest 10 = .ok (.iconst 1, 1) := dk_4 (dk_at dksX6_greatest_0 10 rfl rfl)
theorem dX6_greatest_11 : decode cX6_greatest 11 = .ok (.invokevirtual 78, 3) := dk_182 0 78 (dk_at dksX6_greatest_0 11 rfl rfl)
theorem dX6_greatest_14 : decode cX6_greatest 14 = .ok (.ireturn, 1) := dk_172 (dk_at dksX6_greatest_0 14 rfl rfl)
theorem dX6_greatest_15 : decode cX6_greatest 15 = .ok (.aload_n 0, 1) := dk_42 (dk_at dksX6_greatest_0 15 rfl rfl)
theorem dX6_greatest_16 : decode cX6_greatest 16 = .ok (.invokevirtual 278, 3) := dk_182 1 22 (dk_at dksX6_greatest_0 16 rfl rfl)
theorem dX6_greatest_19 : decode cX6_greatest 19 = .ok (.istore_n 2, 1) := dk_61 (dk_at dksX6_greatest_0 19 rfl rfl)
theorem dX6_greatest_20 : decode cX6_greatest 20 = .ok (.iconst 0, 1) := dk_3 (dk_at dksX6_greatest_0 20 rfl rfl)
theorem dX6_greatest_21 : decode cX6_greatest 21 = .ok (.istore_n 3, 1) := dk_62 (dk_at dksX6_greatest_0 21 rfl rfl)
theorem dX6_greatest_22 : decode cX6_greatest 22 = .ok (.iload_n 3, 1) := dk_29 (dk_at dksX6_greatest_0 22 rfl rfl)
theorem dX6_greatest_23 : decode cX6_greatest 23 = .ok (.bipush 8, 2) := dk_16 8 (dk_at dksX6_greatest_1 0 rfl rfl)
theorem dX6_greatest_25 : decode cX6_greatest 25 = .ok (.if_icmp .gt 79, 3) := dk_163 0 79 (dk_at dksX6_greatest_1 2 rfl rfl)
theorem dX6_greatest_28 : decode cX6_greatest 28 = .ok (.iconst 0, 1) := dk_3 (dk_at dksX6_greatest_1 5 rfl rfl)
theorem dX6_greatest_29 : decode cX6_greatest 29 = .ok (.istore 4, 2) := dk_54 4 (dk_at dksX6_greatest_1 6 rfl rfl)
theorem dX6_greatest_31 : decode cX6_greatest 31 = .ok (.iconst 0, 1) := dk_3 (dk_at dksX6_greatest_1 8 rfl rfl)
theorem dX6_greatest_32 : decode cX6_greatest 32 = .ok (.istore 5, 2) := dk_54 5 (dk_at dksX6_greatest_1 9 rfl rfl)
theorem dX6_greatest_34 : decode cX6_greatest 34 = .ok (.iload 5, 2) := dk_21 5 (dk_at dksX6_greatest_1 11 rfl rfl)
theorem dX6_greatest_36 : decode cX6_greatest 36 = .ok (.aload_n 0, 1) := dk_42 (dk_at dksX6_greatest_1 13 rfl rfl)
theorem dX6_greatest_37 : decode cX6_greatest 37 = .ok (.getfield 7, 3) := dk_180 0 7 (dk_at dksX6_greatest_1 14 rfl rfl)
theorem dX6_greatest_40 : decode cX6_greatest 40 = .ok (.iconst 1, 1) := dk_4 (dk_at dksX6_greatest_1 17 rfl rfl)
theorem dX6_greatest_41 : decode cX6_greatest 41 = .ok (.iaload, 1) := dk_46 (dk_at dksX6_greatest_1 18 rfl rfl)
theorem dX6_greatest_42 : decode cX6_greatest 42 = .ok (.if_icmp .ge 49, 3) := dk_162 0 49 (dk_at dksX6_greatest_1 19 rfl rfl)
theorem dX6_greatest_45 : decode cX6_greatest 45 = .ok (.aload_n 0, 1) := dk_42 (dk_at dksX6_greatest_1 22 rfl rfl)
theorem dX6_greatest_46 : decode cX6_greatest 46 = .ok (.iload_n 2, 1) := dk_28 (dk_at dksX6_greatest_1 23 rfl rfl)
theorem dX6_greatest_47 : decode cX6_greatest 47 = .ok (.iload 5, 2) := dk_21 5 (dk_at dksX6_greatest_2 0 rfl rfl)
theorem dX6_greatest_49 : decode cX6_greatest 49 = .ok (.invokevirtual 263, 3) := dk_182 1 7 (dk_at dksX6_greatest_2 2 rfl rfl)
theorem dX6_greatest_52 : decode cX6_greatest 52 = .ok (.ifCond .eq 33, 3) := dk_153 0 33 (dk_at dksX6_greatest_2 5 rfl rfl)
theorem dX6_greatest_55 : decode cX6_greatest 55 = .ok (.aload_n 0, 1) := dk_42 (dk_at dksX6_greatest_2 8 rfl rfl)
theorem dX6_greatest_56 : decode cX6_greatest 56 = .ok (.iload 5, 2) := dk_21 5 (dk_at dksX6_greatest_2 9 rfl rfl)
theorem dX6_greatest_58 : decode cX6_greatest 58 = .ok (.invokevirtual 269, 3) := dk_182 1 13 (dk_at dksX6_greatest_2 11 rfl rfl)
theorem dX6_greatest_61 : decode cX6_greatest 61 = .ok (.iload_n 2, 1) := dk_28 (dk_at dksX6_greatest_2 14 rfl rfl)
theorem dX6_greatest_62 : decode cX6_greatest 62 = .ok (.iand, 1) := dk_126 (dk_at dksX6_greatest_2 15 rfl rfl)
theorem dX6_greatest_63 : decode cX6_greatest 63 = .ok (.invokestatic 305, 3) := dk_184 1 49 (dk_at dksX6_greatest_2 16 rfl rfl)
theorem dX6_greatest_66 : decode cX6_greatest 66 = .ok (.aload_n 0, 1) := dk_42 (dk_at dksX6_greatest_2 19 rfl rfl)
theorem dX6_greatest_67 : decode cX6_greatest 67 = .ok (.iload 5, 2) := dk_21 5 (dk_at dksX6_greatest_2 20 rfl rfl)
theorem dX6_greatest_69 : decode cX6_greatest 69 = .ok (.iload_n 1, 1) := dk_27 (dk_at dksX6_greatest_2 22 rfl rfl)
theorem dX6_greatest_70 : decode cX6_greatest 70 = .ok (.invokevirtual 293, 3) := dk_182 1 37 (dk_at dksX6_greatest_3 0 rfl rfl)
theorem dX6_greatest_73 : decode cX6_greatest 73 = .ok (.if_icmp .ge 12, 3) := dk_162 0 12 (dk_at dksX6_greatest_3 3 rfl rfl)
theorem dX6_greatest_76 : decode cX6_greatest 76 = .ok (.iload 4, 2) := dk_21 4 (dk_at dksX6_greatest_3 6 rfl rfl)
theorem dX6_greatest_78 : decode cX6_greatest 78 = .ok (.iconst 1, 1) := dk_4 (dk_at dksX6_greatest_3 8 rfl rfl)
theorem dX6_greatest_79 : decode cX6_greatest 79 = .ok (.iload 5, 2) := dk_21 5 (dk_at dksX6_greatest_3 9 rfl rfl)
theorem dX6_greatest_81 : decode cX6_greatest 81 = .ok (.ishl, 1) := dk_120 (dk_at dksX6_greatest_3 11 rfl rfl)
theorem dX6_greatest_82 : decode cX6_greatest 82 = .ok (.ior, 1) := dk_128 (dk_at dksX6_greatest_3 12 rfl rfl)
theorem dX6_greatest_83 : decode cX6_greatest 83 = .ok (.istore 4, 2) := dk_54 4 (dk_at dksX6_greatest_3 13 rfl rfl)
theorem dX6_greatest_85 : decode cX6_greatest 85 = .ok (.iinc 5 1, 3) := dk_132 5 1 (dk_at dksX6_greatest_3 15 rfl rfl)
theorem dX6_greatest_88 : decode cX6_greatest 88 = .ok (.goto (-54), 3) := dk_167 255 202 (dk_at dksX6_greatest_3 18 rfl rfl)
theorem dX6_greatest_91 : decode cX6_greatest 91 = .ok (.iload_n 2, 1) := dk_28 (dk_at dksX6_greatest_3 21 rfl rfl)
theorem dX6_greatest_92 : decode cX6_greatest 92 = .ok (.iload 4, 2) := dk_21 4 (dk_at dksX6_greatest_3 22 rfl rfl)
theorem dX6_greatest_94 : decode cX6_greatest 94 = .ok (.iconst (-1), 1) := dk_2 (dk_at dksX6_greatest_4 0 rfl rfl)
theorem dX6_greatest_95 : decode cX6_greatest 95 = .ok (.ixor, 1) := dk_130 (dk_at dksX6_greatest_4 1 rfl rfl)
theorem dX6_greatest_96 : decode cX6_greatest 96 = .ok (.iand, 1) := dk_126 (dk_at dksX6_greatest_4 2 rfl rfl)
theorem dX6_greatest_97 : decode cX6_greatest 97 = .ok (.istore_n 2, 1) := dk_61 (dk_at dksX6_greatest_4 3 rfl rfl)
theorem dX6_greatest_98 : decode cX6_greatest 98 = .ok (.iinc 3 1, 3) := dk_132 3 1 (dk_at dksX6_greatest_4 4 rfl rfl)
theorem dX6_greatest_101 : decode cX6_greatest 101 = .ok (.goto (-79), 3) := dk_167 255 177 (dk_at dksX6_greatest_4 7 rfl rfl)
theorem dX6_greatest_104 : decode cX6_greatest 104 = .ok (.aload_n 0, 1) := dk_42 (dk_at dksX6_greatest_4 10 rfl rfl)
theorem dX6_greatest_105 : decode cX6_greatest 105 = .ok (.iload_n 2, 1) := dk_28 (dk_at dksX6_greatest_4 11 rfl rfl)
theorem dX6_greatest_106 : decode cX6_greatest 106 = .ok (.invokevirtual 82, 3) := dk_182 0 82 (dk_at dksX6_greatest_4 12 rfl rfl)
theorem dX6_greatest_109 : decode cX6_greatest 109 = .ok (.ireturn, 1) := dk_172 (dk_at dksX6_greatest_4 15 rfl rfl)
abbrev cX6_seeds : ByteArray := prog_15_method_100_code
def yX6_seeds : MethodName := ⟨RX6, "seeds", "(I)I"⟩
def dkwX6_seeds_1 : List UInt8 := [182, 0, 78, 172]
abbrev dktX6_seeds_1 : List UInt8 := dkwX6_seeds_1 ++ []
def dkwX6_seeds_0 : List UInt8 := [42, 27, 133, 182, 1, 79, 153, 0, 16, 42, 42, 27, 182, 1, 92, 184, 1, 49, 182, 0, 82, 172, 42, 4]
abbrev dktX6_seeds_0 : List UInt8 := dkwX6_seeds_0 ++ dktX6_seeds_1
theorem dksX6_seeds_0 : cX6_seeds.data.toList.drop 0 = dktX6_seeds_0 := by decide +kernel
theorem dksX6_seeds_1 : cX6_seeds.data.toList.drop 24 = dktX6_seeds_1 := dk_seg dksX6_seeds_0 24 rfl rfl
theorem dX6_seeds_0 : decode cX6_seeds 0 = .ok (.aload_n 0, 1) := dk_42 (dk_at dksX6_seeds_0 0 rfl rfl)
theorem dX6_seeds_1 : decode cX6_seeds 1 = .ok (.iload_n 1, 1) := dk_27 (dk_at dksX6_seeds_0 1 rfl rfl)
theorem dX6_seeds_2 : decode cX6_seeds 2 = .ok (.i2l, 1) := dk_133 (dk_at dksX6_seeds_0 2 rfl rfl)
theorem dX6_seeds_3 : decode cX6_seeds 3 = .ok (.invokevirtual 335, 3) := dk_182 1 79 (dk_at dksX6_seeds_0 3 rfl rfl)
theorem dX6_seeds_6 : decode cX6_seeds 6 = .ok (.ifCond .eq 16, 3) := dk_153 0 16 (dk_at dksX6_seeds_0 6 rfl rfl)
theorem dX6_seeds_9 : decode cX6_seeds 9 = .ok (.aload_n 0, 1) := dk_42 (dk_at dksX6_seeds_0 9 rfl rfl)
theorem dX6_seeds_10 : decode cX6_seeds 10 = .ok (.aload_n 0, 1) := dk_42 (dk_at dksX6_seeds_0 10 rfl rfl)
theorem dX6_seeds_11 : decode cX6_seeds 11 = .ok (.iload_n 1, 1) := dk_27 (dk_at dksX6_seeds_0 11 rfl rfl)
theorem dX6_seeds_12 : decode cX6_seeds 12 = .ok (.invokevirtual 348, 3) := dk_182 1 92 (dk_at dksX6_seeds_0 12 rfl rfl)
theorem dX6_seeds_15 : decode cX6_seeds 15 = .ok (.invokestatic 305, 3) := dk_184 1 49 (dk_at dksX6_seeds_0 15 rfl rfl)
theorem dX6_seeds_18 : decode cX6_seeds 18 = .ok (.invokevirtual 82, 3) := dk_182 0 82 (dk_at dksX6_seeds_0 18 rfl rfl)
theorem dX6_seeds_21 : decode cX6_seeds 21 = .ok (.ireturn, 1) := dk_172 (dk_at dksX6_seeds_0 21 rfl rfl)
theorem dX6_seeds_22 : decode cX6_seeds 22 = .ok (.aload_n 0, 1) := dk_42 (dk_at dksX6_seeds_0 22 rfl rfl)
theorem dX6_seeds_23 : decode cX6_seeds 23 = .ok (.iconst 1, 1) := dk_4 (dk_at dksX6_seeds_0 23 rfl rfl)
theorem dX6_seeds_24 : decode cX6_seeds 24 = .ok (.invokevirtual 78, 3) := dk_182 0 78 (dk_at dksX6_seeds_1 0 rfl rfl)
theorem dX6_seeds_27 : decode cX6_seeds 27 = .ok (.ireturn, 1) := dk_172 (dk_at dksX6_seeds_1 3 rfl rfl)
abbrev cX6_seedsOf : ByteArray := prog_15_method_99_code
def yX6_seedsOf : MethodName := ⟨RX6, "seedsOf", "(I)I"⟩
def dkwX6_seedsOf_3 : List UInt8 := [182, 1, 22, 160, 0, 5, 29, 61, 132, 3, 1, 167, 255, 182, 28, 172]
abbrev dktX6_seedsOf_3 : List UInt8 := dkwX6_seedsOf_3 ++ []
def dkwX6_seedsOf_2 : List UInt8 := [160, 0, 11, 29, 28, 161, 0, 6, 167, 0, 24, 42, 42, 182, 1, 22, 27, 29, 16, 9, 182, 1, 52, 42]
abbrev dktX6_seedsOf_2 : List UInt8 := dkwX6_seedsOf_2 ++ dktX6_seedsOf_3
def dkwX6_seedsOf_1 : List UInt8 := [154, 0, 54, 29, 184, 1, 49, 28, 184, 1, 49, 163, 0, 43, 29, 184, 1, 49, 28, 184, 1, 49]
abbrev dktX6_seedsOf_1 : List UInt8 := dkwX6_seedsOf_1 ++ dktX6_seedsOf_2
def dkwX6_seedsOf_0 : List UInt8 := [42, 182, 1, 22, 61, 3, 62, 29, 42, 182, 1, 4, 163, 0, 72, 29, 42, 180, 0, 7, 16, 7, 46, 126]
abbrev dktX6_seedsOf_0 : List UInt8 := dkwX6_seedsOf_0 ++ dktX6_seedsOf_1
theorem dksX6_seedsOf_0 : cX6_seedsOf.data.toList.drop 0 = dktX6_seedsOf_0 := by decide +kernel
theorem dksX6_seedsOf_1 : cX6_seedsOf.data.toList.drop 24 = dktX6_seedsOf_1 := dk_seg dksX6_seedsOf_0 24 rfl rfl
theorem dksX6_seedsOf_2 : cX6_seedsOf.data.toList.drop 46 = dktX6_seedsOf_2 := dk_seg dksX6_seedsOf_1 22 rfl rfl
theorem dksX6_seedsOf_3 : cX6_seedsOf.data.toList.drop 70 = dktX6_seedsOf_3 := dk_seg dksX6_seedsOf_2 24 rfl rfl
theorem dX6_seedsOf_0 : decode cX6_seedsOf 0 = .ok (.aload_n 0, 1) := dk_42 (dk_at dksX6_seedsOf_0 0 rfl rfl)
theorem dX6_seedsOf_1 : decode cX6_seedsOf 1 = .ok (.invokevirtual 278, 3) := dk_182 1 22 (dk_at dksX6_seedsOf_0 1 rfl rfl)
theorem dX6_seedsOf_4 : decode cX6_seedsOf 4 = .ok (.istore_n 2, 1) := dk_61 (dk_at dksX6_seedsOf_0 4 rfl rfl)
theorem dX6_seedsOf_5 : decode cX6_seedsOf 5 = .ok (.iconst 0, 1) := dk_3 (dk_at dksX6_seedsOf_0 5 rfl rfl)
theorem dX6_seedsOf_6 : decode cX6_seedsOf 6 = .ok (.istore_n 3, 1) := dk_62 (dk_at dksX6_seedsOf_0 6 rfl rfl)
theorem dX6_seedsOf_7 : decode cX6_seedsOf 7 = .ok (.iload_n 3, 1) := dk_29 (dk_at dksX6_seedsOf_0 7 rfl rfl)
theorem dX6_seedsOf_8 : decode cX6_seedsOf 8 = .ok (.aload_n 0, 1) := dk_42 (dk_at dksX6_seedsOf_0 8 rfl rfl)
theorem dX6_seedsOf_9 : decode cX6_seedsOf 9 = .ok (.invokevirtual 260, 3) := dk_182 1 4 (dk_at dksX6_seedsOf_0 9 rfl rfl)
theorem dX6_seedsOf_12 : decode cX6_seedsOf 12 = .ok (.if_icmp .gt 72, 3) := dk_163 0 72 (dk_at dksX6_seedsOf_0 12 rfl rfl)
theorem dX6_seedsOf_15 : decode cX6_seedsOf 15 = .ok (.iload_n 3, 1) := dk_29 (dk_at dksX6_seedsOf_0 15 rfl rfl)
theorem dX6_seedsOf_16 : decode cX6_seedsOf 16 = .ok (.aload_n 0, 1) := dk_42 (dk_at dksX6_seedsOf_0 16 rfl rfl)
theorem dX6_seedsOf_17 : decode cX6_seedsOf 17 = .ok (.getfield 7, 3) := dk_180 0 7 (dk_at dksX6_seedsOf_0 17 rfl rfl)
theorem dX6_seedsOf_20 : decode cX6_seedsOf 20 = .ok (.bipush 7, 2) := dk_16 7 (dk_at dksX6_seedsOf_0 20 rfl rfl)
theorem dX6_seedsOf_22 : decode cX6_seedsOf 22 = .ok (.iaload, 1) := dk_46 (dk_at dksX6_seedsOf_0 22 rfl rfl)
theorem dX6_seedsOf_23 : decode cX6_seedsOf 23 = .ok (.iand, 1) := dk_126 (dk_at dksX6_seedsOf_0 23 rfl rfl)
theorem dX6_seedsOf_24 : decode cX6_seedsOf 24 = .ok (.ifCond .ne 54, 3) := dk_154 0 54 (dk_at dksX6_seedsOf_1 0 rfl rfl)
theorem dX6_seedsOf_27 : decode cX6_seedsOf 27 = .ok (.iload_n 3, 1) := dk_29 (dk_at dksX6_seedsOf_1 3 rfl rfl)
theorem dX6_seedsOf_28 : decode cX6_seedsOf 28 = .ok (.invokestatic 305, 3) := dk_184 1 49 (dk_at dksX6_seedsOf_1 4 rfl rfl)
theorem dX6_seedsOf_31 : decode cX6_seedsOf 31 = .ok (.iload_n 2, 1) := dk_28 (dk_at dksX6_seedsOf_1 7 rfl rfl)
theorem dX6_seedsOf_32 : decode cX6_seedsOf 32 = .ok (.invokestatic 305, 3) := dk_184 1 49 (dk_at dksX6_seedsOf_1 8 rfl rfl)
theorem dX6_seedsOf_35 : decode cX6_seedsOf 35 = .ok (.if_icmp .gt 43, 3) := dk_163 0 43 (dk_at dksX6_seedsOf_1 11 rfl rfl)
theorem dX6_seedsOf_38 : decode cX6_seedsOf 38 = .ok (.iload_n 3, 1) := dk_29 (dk_at dksX6_seedsOf_1 14 rfl rfl)
theorem dX6_seedsOf_39 : decode cX6_seedsOf 39 = .ok (.invokestatic 305, 3) := dk_184 1 49 (dk_at dksX6_seedsOf_1 15 rfl rfl)
theorem dX6_seedsOf_42 : decode cX6_seedsOf 42 = .ok (.iload_n 2, 1) := dk_28 (dk_at dksX6_seedsOf_1 18 rfl rfl)
theorem dX6_seedsOf_43 : decode cX6_seedsOf 43 = .ok (.invokestatic 305, 3) := dk_184 1 49 (dk_at dksX6_seedsOf_1 19 rfl rfl)
theorem dX6_seedsOf_46 : decode cX6_seedsOf 46 = .ok (.if_icmp .ne 11, 3) := dk_160 0 11 (dk_at dksX6_seedsOf_2 0 rfl rfl)
theorem dX6_seedsOf_49 : decode cX6_seedsOf 49 = .ok (.iload_n 3, 1) := dk_29 (dk_at dksX6_seedsOf_2 3 rfl rfl)
theorem dX6_seedsOf_50 : decode cX6_seedsOf 50 = .ok (.iload_n 2, 1) := dk_28 (dk_at dksX6_seedsOf_2 4 rfl rfl)
theorem dX6_seedsOf_51 : decode cX6_seedsOf 51 = .ok (.if_icmp .lt 6, 3) := dk_161 0 6 (dk_at dksX6_seedsOf_2 5 rfl rfl)
theorem dX6_seedsOf_54 : decode cX6_seedsOf 54 = .ok (.goto 24, 3) := dk_167 0 24 (dk_at dksX6_seedsOf_2 8 rfl rfl)
theorem dX6_seedsOf_57 : decode cX6_seedsOf 57 = .ok (.aload_n 0, 1) := dk_42 (dk_at dksX6_seedsOf_2 11 rfl rfl)
theorem dX6_seedsOf_58 : decode cX6_seedsOf 58 = .ok (.aload_n 0, 1) := dk_42 (dk_at dksX6_seedsOf_2 12 rfl rfl)
theorem dX6_seedsOf_59 : decode cX6_seedsOf 59 = .ok (.invokevirtual 278, 3) := dk_182 1 22 (dk_at dksX6_seedsOf_2 13 rfl rfl)
theorem dX6_seedsOf_62 : decode cX6_seedsOf 62 = .ok (.iload_n 1, 1) := dk_27 (dk_at dksX6_seedsOf_2 16 rfl rfl)
theorem dX6_seedsOf_63 : decode cX6_seedsOf 63 = .ok (.iload_n 3, 1) := dk_29 (dk_at dksX6_seedsOf_2 17 rfl rfl)
theorem dX6_seedsOf_64 : decode cX6_seedsOf 64 = .ok (.bipush 9, 2) := dk_16 9 (dk_at dksX6_seedsOf_2 18 rfl rfl)
theorem dX6_seedsOf_66 : decode cX6_seedsOf 66 = .ok (.invokevirtual 308, 3) := dk_182 1 52 (dk_at dksX6_seedsOf_2 20 rfl rfl)
theorem dX6_seedsOf_69 : decode cX6_seedsOf 69 = .ok (.aload_n 0, 1) := dk_42 (dk_at dksX6_seedsOf_2 23 rfl rfl)
theorem dX6_seedsOf_70 : decode cX6_seedsOf 70 = .ok (.invokevirtual 278, 3) := dk_182 1 22 (dk_at dksX6_seedsOf_3 0 rfl rfl)
theorem dX6_seedsOf_73 : decode cX6_seedsOf 73 = .ok (.if_icmp .ne 5, 3) := dk_160 0 5 (dk_at dksX6_seedsOf_3 3 rfl rfl)
theorem dX6_seedsOf_76 : decode cX6_seedsOf 76 = .ok (.iload_n 3, 1) := dk_29 (dk_at dksX6_seedsOf_3 6 rfl rfl)
theorem dX6_seedsOf_77 : decode cX6_seedsOf 77 = .ok (.istore_n 2, 1) := dk_61 (dk_at dksX6_seedsOf_3 7 rfl rfl)
theorem dX6_seedsOf_78 : decode cX6_seedsOf 78 = .ok (.iinc 3 1, 3) := dk_132 3 1 (dk_at dksX6_seedsOf_3 8 rfl rfl)
theorem dX6_seedsOf_81 : decode cX6_seedsOf 81 = .ok (.goto (-74), 3) := dk_167 255 182 (dk_at dksX6_seedsOf_3 11 rfl rfl)
theorem dX6_seedsOf_84 : decode cX6_seedsOf 84 = .ok (.iload_n 2, 1) := dk_28 (dk_at dksX6_seedsOf_3 14 rfl rfl)
theorem dX6_seedsOf_85 : decode cX6_seedsOf 85 = .ok (.ireturn, 1) := dk_172 (dk_at dksX6_seedsOf_3 15 rfl rfl)
abbrev cX6_seedSet : ByteArray := prog_15_method_101_code
def yX6_seedSet : MethodName := ⟨RX6, "seedSet", "(I)I"⟩
def dkwX6_seedSet_1 : List UInt8 := [172]
abbrev dktX6_seedSet_1 : List UInt8 := dkwX6_seedSet_1 ++ []
def dkwX6_seedSet_0 : List UInt8 := [42, 27, 133, 182, 1, 79, 153, 0, 13, 42, 42, 27, 182, 1, 92, 182, 0, 82, 172, 42, 4, 182, 0, 78]
abbrev dktX6_seedSet_0 : List UInt8 := dkwX6_seedSet_0 ++ dktX6_seedSet_1
theorem dksX6_seedSet_0 : cX6_seedSet.data.toList.drop 0 = dktX6_seedSet_0 := by decide +kernel
theorem dksX6_seedSet_1 : cX6_seedSet.data.toList.drop 24 = dktX6_seedSet_1 := dk_seg dksX6_seedSet_0 24 rfl rfl
theorem dX6_seedSet_0 : decode cX6_seedSet 0 = .ok (.aload_n 0, 1) := dk_42 (dk_at dksX6_seedSet_0 0 rfl rfl)
theorem dX6_seedSet_1 : decode cX6_seedSet 1 = .ok (.iload_n 1, 1) := dk_27 (dk_at dksX6_seedSet_0 1 rfl rfl)
theorem dX6_seedSet_2 : decode cX6_seedSet 2 = .ok (.i2l, 1) := dk_133 (dk_at dksX6_seedSet_0 2 rfl rfl)
theorem dX6_seedSet_3 : decode cX6_seedSet 3 = .ok (.invokevirtual 335, 3) := dk_182 1 79 (dk_at dksX6_seedSet_0 3 rfl rfl)
theorem dX6_seedSet_6 : decode cX6_seedSet 6 = .ok (.ifCond .eq 13, 3) := dk_153 0 13 (dk_at dksX6_seedSet_0 6 rfl rfl)
theorem dX6_seedSet_9 : decode cX6_seedSet 9 = .ok (.aload_n 0, 1) := dk_42 (dk_at dksX6_seedSet_0 9 rfl rfl)
theorem dX6_seedSet_10 : decode cX6_seedSet 10 = .ok (.aload_n 0, 1) := dk_42 (dk_at dksX6_seedSet_0 10 rfl rfl)
theorem dX6_seedSet_11 : decode cX6_seedSet 11 = .ok (.iload_n 1, 1) := dk_27 (dk_at dksX6_seedSet_0 11 rfl rfl)
theorem dX6_seedSet_12 : decode cX6_seedSet 12 = .ok (.invokevirtual 348, 3) := dk_182 1 92 (dk_at dksX6_seedSet_0 12 rfl rfl)
theorem dX6_seedSet_15 : decode cX6_seedSet 15 = .ok (.invokevirtual 82, 3) := dk_182 0 82 (dk_at dksX6_seedSet_0 15 rfl rfl)
theorem dX6_seedSet_18 : decode cX6_seedSet 18 = .ok (.ireturn, 1) := dk_172 (dk_at dksX6_seedSet_0 18 rfl rfl)
theorem dX6_seedSet_19 : decode cX6_seedSet 19 = .ok (.aload_n 0, 1) := dk_42 (dk_at dksX6_seedSet_0 19 rfl rfl)
theorem dX6_seedSet_20 : decode cX6_seedSet 20 = .ok (.iconst 1, 1) := dk_4 (dk_at dksX6_seedSet_0 20 rfl rfl)
theorem dX6_seedSet_21 : decode cX6_seedSet 21 = .ok (.invokevirtual 78, 3) := dk_182 0 78 (dk_at dksX6_seedSet_0 21 rfl rfl)
theorem dX6_seedSet_24 : decode cX6_seedSet 24 = .ok (.ireturn, 1) := dk_172 (dk_at dksX6_seedSet_1 0 rfl rfl)
abbrev cX6_weight : ByteArray := prog_15_method_103_code
def yX6_weight : MethodName := ⟨RX6, "weight", "(II)I"⟩
def dkwX6_weight_2 : List UInt8 := [182, 0, 82, 172]
abbrev dktX6_weight_2 : List UInt8 := dkwX6_weight_2 ++ []
def dkwX6_weight_1 : List UInt8 := [27, 182, 1, 40, 153, 0, 12, 42, 16, 7, 182, 0, 78, 167, 0, 13, 42, 42, 27, 28, 182, 1, 95]
abbrev dktX6_weight_1 : List UInt8 := dkwX6_weight_1 ++ dktX6_weight_2
def dkwX6_weight_0 : List UInt8 := [42, 27, 182, 1, 34, 153, 0, 12, 42, 28, 133, 182, 1, 79, 154, 0, 9, 42, 4, 182, 0, 78, 172, 42]
abbrev dktX6_weight_0 : List UInt8 := dkwX6_weight_0 ++ dktX6_weight_1
theorem dksX6_weight_0 : cX6_weight.data.toList.drop 0 = dktX6_weight_0 := by decide +kernel
theorem dksX6_weight_1 : cX6_weight.data.toList.drop 24 = dktX6_weight_1 := dk_seg dksX6_weight_0 24 rfl rfl
theorem dksX6_weight_2 : cX6_weight.data.toList.drop 47 = dktX6_weight_2 := dk_seg dksX6_weight_1 23 rfl rfl
theorem dX6_weight_0 : decode cX6_weight 0 = .ok (.aload_n 0, 1) := dk_42 (dk_at dksX6_weight_0 0 rfl rfl)
theorem dX6_weight_1 : decode cX6_weight 1 = .ok (.iload_n 1, 1) := dk_27 (dk_at dksX6_weight_0 1 rfl rfl)
theorem dX6_weight_2 : decode cX6_weight 2 = .ok (.invokevirtual 290, 3) := dk_182 1 34 (dk_at dksX6_weight_0 2 rfl rfl)
theorem dX6_weight_5 : decode cX6_weight 5 = .ok (.ifCond .eq 12, 3) := dk_153 0 12 (dk_at dksX6_weight_0 5 rfl rfl)
theorem dX6_weight_8 : decode cX6_weight 8 = .ok (.aload_n 0, 1) := dk_42 (dk_at dksX6_weight_0 8 rfl rfl)
theorem dX6_weight_9 : decode cX6_weight 9 = .ok (.iload_n 2, 1) := dk_28 (dk_at dksX6_weight_0 9 rfl rfl)
theorem dX6_weight_10 : decode cX6_weight 10 = .ok (.i2l, 1) := dk_133 (dk_at dksX6_weight_0 10 rfl rfl)
theorem dX6_weight_11 : decode cX6_weight 11 = .ok (.invokevirtual 335, 3) := dk_182 1 79 (dk_at dksX6_weight_0 11 rfl rfl)
theorem dX6_weight_14 : decode cX6_weight 14 = .ok (.ifCond .ne 9, 3) := dk_154 0 9 (dk_at dksX6_weight_0 14 rfl rfl)
theorem dX6_weight_17 : decode cX6_weight 17 = .ok (.aload_n 0, 1) := dk_42 (dk_at dksX6_weight_0 17 rfl rfl)
theorem dX6_weight_18 : decode cX6_weight 18 = .ok (.iconst 1, 1) := dk_4 (dk_at dksX6_weight_0 18 rfl rfl)
theorem dX6_weight_19 : decode cX6_weight 19 = .ok (.invokevirtual 78, 3) := dk_182 0 78 (dk_at dksX6_weight_0 19 rfl rfl)
theorem dX6_weight_22 : decode cX6_weight 22 = .ok (.ireturn, 1) := dk_172 (dk_at dksX6_weight_0 22 rfl rfl)
theorem dX6_weight_23 : decode cX6_weight 23 = .ok (.aload_n 0, 1) := dk_42 (dk_at dksX6_weight_0 23 rfl rfl)
theorem dX6_weight_24 : decode cX6_weight 24 = .ok (.iload_n 1, 1) := dk_27 (dk_at dksX6_weight_1 0 rfl rfl)
theorem dX6_weight_25 : decode cX6_weight 25 = .ok (.invokevirtual 296, 3) := dk_182 1 40 (dk_at dksX6_weight_1 1 rfl rfl)
theorem dX6_weight_28 : decode cX6_weight 28 = .ok (.ifCond .eq 12, 3) := dk_153 0 12 (dk_at dksX6_weight_1 4 rfl rfl)
theorem dX6_weight_31 : decode cX6_weight 31 = .ok (.aload_n 0, 1) := dk_42 (dk_at dksX6_weight_1 7 rfl rfl)
theorem dX6_weight_32 : decode cX6_weight 32 = .ok (.bipush 7, 2) := dk_16 7 (dk_at dksX6_weight_1 8 rfl rfl)
theorem dX6_weight_34 : decode cX6_weight 34 = .ok (.invokevirtual 78, 3) := dk_182 0 78 (dk_at dksX6_weight_1 10 rfl rfl)
theorem dX6_weight_37 : decode cX6_weight 37 = .ok (.goto 13, 3) := dk_167 0 13 (dk_at dksX6_weight_1 13 rfl rfl)
theorem dX6_weight_40 : decode cX6_weight 40 = .ok (.aload_n 0, 1) := dk_42 (dk_at dksX6_weight_1 16 rfl rfl)
theorem dX6_weight_41 : decode cX6_weight 41 = .ok (.aload_n 0, 1) := dk_42 (dk_at dksX6_weight_1 17 rfl rfl)
theorem dX6_weight_42 : decode cX6_weight 42 = .ok (.iload_n 1, 1) := dk_27 (dk_at dksX6_weight_1 18 rfl rfl)
theorem dX6_weight_43 : decode cX6_weight 43 = .ok (.iload_n 2, 1) := dk_28 (dk_at dksX6_weight_1 19 rfl rfl)
theorem dX6_weight_44 : decode cX6_weight 44 = .ok (.invokevirtual 351, 3) := dk_182 1 95 (dk_at dksX6_weight_1 20 rfl rfl)
theorem dX6_weight_47 : decode cX6_weight 47 = .ok (.invokevirtual 82, 3) := dk_182 0 82 (dk_at dksX6_weight_2 0 rfl rfl)
theorem dX6_weight_50 : decode cX6_weight 50 = .ok (.ireturn, 1) := dk_172 (dk_at dksX6_weight_2 3 rfl rfl)
abbrev cX6_weightOf : ByteArray := prog_15_method_102_code
def yX6_weightOf : MethodName := ⟨RX6, "weightOf", "(II)I"⟩
def dkwX6_weightOf_1 : List UInt8 := [2, 130, 126, 28, 182, 1, 56, 54, 4, 29, 184, 1, 49, 21, 4, 184, 1, 49, 100, 172]
abbrev dktX6_weightOf_1 : List UInt8 := dkwX6_weightOf_1 ++ []
def dkwX6_weightOf_0 : List UInt8 := [42, 42, 182, 1, 22, 28, 182, 1, 56, 4, 27, 120, 2, 130, 126, 62, 42, 42, 182, 1, 22, 4, 27, 120]
abbrev dktX6_weightOf_0 : List UInt8 := dkwX6_weightOf_0 ++ dktX6_weightOf_1
theorem dksX6_weightOf_0 : cX6_weightOf.data.toList.drop 0 = dktX6_weightOf_0 := by decide +kernel
theorem dksX6_weightOf_1 : cX6_weightOf.data.toList.drop 24 = dktX6_weightOf_1 := dk_seg dksX6_weightOf_0 24 rfl rfl
theorem dX6_weightOf_0 : decode cX6_weightOf 0 = .ok (.aload_n 0, 1) := dk_42 (dk_at dksX6_weightOf_0 0 rfl rfl)
theorem dX6_weightOf_1 : decode cX6_weightOf 1 = .ok (.aload_n 0, 1) := dk_42 (dk_at dksX6_weightOf_0 1 rfl rfl)
theorem dX6_weightOf_2 : decode cX6_weightOf 2 = .ok (.invokevirtual 278, 3) := dk_182 1 22 (dk_at dksX6_weightOf_0 2 rfl rfl)
theorem dX6_weightOf_5 : decode cX6_weightOf 5 = .ok (.iload_n 2, 1) := dk_28 (dk_at dksX6_weightOf_0 5 rfl rfl)
theorem dX6_weightOf_6 : decode cX6_weightOf 6 = .ok (.invokevirtual 312, 3) := dk_182 1 56 (dk_at dksX6_weightOf_0 6 rfl rfl)
theorem dX6_weightOf_9 : decode cX6_weightOf 9 = .ok (.iconst 1, 1) := dk_4 (dk_at dksX6_weightOf_0 9 rfl rfl)
theorem dX6_weightOf_10 : decode cX6_weightOf 10 = .ok (.iload_n 1, 1) := dk_27 (dk_at dksX6_weightOf_0 10 rfl rfl)
theorem dX6_weightOf_11 : decode cX6_weightOf 11 = .ok (.ishl, 1) := dk_120 (dk_at dksX6_weightOf_0 11 rfl rfl)
theorem dX6_weightOf_12 : decode cX6_weightOf 12 = .ok (.iconst (-1), 1) := dk_2 (dk_at dksX6_weightOf_0 12 rfl rfl)
theorem dX6_weightOf_13 : decode cX6_weightOf 13 = .ok (.ixor, 1) := dk_130 (dk_at dksX6_weightOf_0 13 rfl rfl)
theorem dX6_weightOf_14 : decode cX6_weightOf 14 = .ok (.iand, 1) := dk_126 (dk_at dksX6_weightOf_0 14 rfl rfl)
theorem dX6_weightOf_15 : decode cX6_weightOf 15 = .ok (.istore_n 3, 1) := dk_62 (dk_at dksX6_weightOf_0 15 rfl rfl)
theorem dX6_weightOf_16 : decode cX6_weightOf 16 = .ok (.aload_n 0, 1) := dk_42 (dk_at dksX6_weightOf_0 16 rfl rfl)
theorem dX6_weightOf_17 : decode cX6_weightOf 17 = .ok (.aload_n 0, 1) := dk_42 (dk_at dksX6_weightOf_0 17 rfl rfl)
theorem dX6_weightOf_18 : decode cX6_weightOf 18 = .ok (.invokevirtual 278, 3) := dk_182 1 22 (dk_at dksX6_weightOf_0 18 rfl rfl)
theorem dX6_weightOf_21 : decode cX6_weightOf 21 = .ok (.iconst 1, 1) := dk_4 (dk_at dksX6_weightOf_0 21 rfl rfl)
theorem dX6_weightOf_22 : decode cX6_weightOf 22 = .ok (.iload_n 1, 1) := dk_27 (dk_at dksX6_weightOf_0 22 rfl rfl)
theorem dX6_weightOf_23 : decode cX6_weightOf 23 = .ok (.ishl, 1) := dk_120 (dk_at dksX6_weightOf_0 23 rfl rfl)
theorem dX6_weightOf_24 : decode cX6_weightOf 24 = .ok (.iconst (-1), 1) := dk_2 (dk_at dksX6_weightOf_1 0 rfl rfl)
theorem dX6_weightOf_25 : decode cX6_weightOf 25 = .ok (.ixor, 1) := dk_130 (dk_at dksX6_weightOf_1 1 rfl rfl)
theorem dX6_weightOf_26 : decode cX6_weightOf 26 = .ok (.iand, 1) := dk_126 (dk_at dksX6_weightOf_1 2 rfl rfl)
theorem dX6_weightOf_27 : decode cX6_weightOf 27 = .ok (.iload_n 2, 1) := dk_28 (dk_at dksX6_weightOf_1 3 rfl rfl)
theorem dX6_weightOf_28 : decode cX6_weightOf 28 = .ok (.invokevirtual 312, 3) := dk_182 1 56 (dk_at dksX6_weightOf_1 4 rfl rfl)
theorem dX6_weightOf_31 : decode cX6_weightOf 31 = .ok (.istore 4, 2) := dk_54 4 (dk_at dksX6_weightOf_1 7 rfl rfl)
theorem dX6_weightOf_33 : decode cX6_weightOf 33 = .ok (.iload_n 3, 1) := dk_29 (dk_at dksX6_weightOf_1 9 rfl rfl)
theorem dX6_weightOf_34 : decode cX6_weightOf 34 = .ok (.invokestatic 305, 3) := dk_184 1 49 (dk_at dksX6_weightOf_1 10 rfl rfl)
theorem dX6_weightOf_37 : decode cX6_weightOf 37 = .ok (.iload 4, 2) := dk_21 4 (dk_at dksX6_weightOf_1 13 rfl rfl)
theorem dX6_weightOf_39 : decode cX6_weightOf 39 = .ok (.invokestatic 305, 3) := dk_184 1 49 (dk_at dksX6_weightOf_1 15 rfl rfl)
theorem dX6_weightOf_42 : decode cX6_weightOf 42 = .ok (.isub, 1) := dk_100 (dk_at dksX6_weightOf_1 18 rfl rfl)
theorem dX6_weightOf_43 : decode cX6_weightOf 43 = .ok (.ireturn, 1) := dk_172 (dk_at dksX6_weightOf_1 19 rfl rfl)
abbrev cX6_keystone : ByteArray := prog_15_method_104_code
def yX6_keystone : MethodName := ⟨RX6, "keystone", "(I)I"⟩
def dkwX6_keystone_2 : List UInt8 := [42, 28, 27, 182, 1, 95, 164, 0, 5, 29, 61, 132, 3, 1, 167, 255, 213, 42, 28, 182, 1, 98, 172]
abbrev dktX6_keystone_2 : List UInt8 := dkwX6_keystone_2 ++ []
def dkwX6_keystone_1 : List UInt8 := [4, 46, 162, 0, 39, 42, 29, 182, 1, 40, 154, 0, 25, 28, 2, 159, 0, 18, 42, 29, 27, 182, 1, 95]
abbrev dktX6_keystone_1 : List UInt8 := dkwX6_keystone_1 ++ dktX6_keystone_2
def dkwX6_keystone_0 : List UInt8 := [42, 27, 133, 182, 1, 79, 154, 0, 9, 42, 4, 182, 0, 78, 172, 2, 61, 3, 62, 29, 42, 180, 0, 7]
abbrev dktX6_keystone_0 : List UInt8 := dkwX6_keystone_0 ++ dktX6_keystone_1
theorem dksX6_keystone_0 : cX6_keystone.data.toList.drop 0 = dktX6_keystone_0 := by decide +kernel
theorem dksX6_keystone_1 : cX6_keystone.data.toList.drop 24 = dktX6_keystone_1 := dk_seg dksX6_keystone_0 24 rfl rfl
theorem dksX6_keystone_2 : cX6_keystone.data.toList.drop 48 = dktX6_keystone_2 := dk_seg dksX6_keystone_1 24 rfl rfl
theorem dX6_keystone_0 : decode cX6_keystone 0 = .ok (.aload_n 0, 1) := dk_42 (dk_at dksX6_keystone_0 0 rfl rfl)
theorem dX6_keystone_1 : decode cX6_keystone 1 = .ok (.iload_n 1, 1) := dk_27 (dk_at dksX6_keystone_0 1 rfl rfl)
theorem dX6_keystone_2 : decode cX6_keystone 2 = .ok (.i2l, 1) := dk_133 (dk_at dksX6_keystone_0 2 rfl rfl)
theorem dX6_keystone_3 : decode cX6_keystone 3 = .ok (.invokevirtual 335, 3) := dk_182 1 79 (dk_at dksX6_keystone_0 3 rfl rfl)
theorem dX6_keystone_6 : decode cX6_keystone 6 = .ok (.ifCond .ne 9, 3) := dk_154 0 9 (dk_at dksX6_keystone_0 6 rfl rfl)
theorem dX6_keystone_9 : decode cX6_keystone 9 = .ok (.aload_n 0, 1) := dk_42 (dk_at dksX6_keystone_0 9 rfl rfl)
theorem dX6_keystone_10 : decode cX6_keystone 10 = .ok (.iconst 1, 1) := dk_4 (dk_at dksX6_keystone_0 10 rfl rfl)
theorem dX6_keystone_11 : decode cX6_keystone 11 = .ok (.invokevirtual 78, 3) := dk_182 0 78 (dk_at dksX6_keystone_0 11 rfl rfl)
theorem dX6_keystone_14 : decode cX6_keystone 14 = .ok (.ireturn, 1) := dk_172 (dk_at dksX6_keystone_0 14 rfl rfl)
theorem dX6_keystone_15 : decode cX6_keystone 15 = .ok (.iconst (-1), 1) := dk_2 (dk_at dksX6_keystone_0 15 rfl rfl)
theorem dX6_keystone_16 : decode cX6_keystone 16 = .ok (.istore_n 2, 1) := dk_61 (dk_at dksX6_keystone_0 16 rfl rfl)
theorem dX6_keystone_17 : decode cX6_keystone 17 = .ok (.iconst 0, 1) := dk_3 (dk_at dksX6_keystone_0 17 rfl rfl)
theorem dX6_keystone_18 : decode cX6_keystone 18 = .ok (.istore_n 3, 1) := dk_62 (dk_at dksX6_keystone_0 18 rfl rfl)
theorem dX6_keystone_19 : decode cX6_keystone 19 = .ok (.iload_n 3, 1) := dk_29 (dk_at dksX6_keystone_0 19 rfl rfl)
theorem dX6_keystone_20 : decode cX6_keystone 20 = .ok (.aload_n 0, 1) := dk_42 (dk_at dksX6_keystone_0 20 rfl rfl)
theorem dX6_keystone_21 : decode cX6_keystone 21 = .ok (.getfield 7, 3) := dk_180 0 7 (dk_at dksX6_keystone_0 21 rfl rfl)
theorem dX6_keystone_24 : decode cX6_keystone 24 = .ok (.iconst 1, 1) := dk_4 (dk_at dksX6_keystone_1 0 rfl rfl)
theorem dX6_keystone_25 : decode cX6_keystone 25 = .ok (.iaload, 1) := dk_46 (dk_at dksX6_keystone_1 1 rfl rfl)
theorem dX6_keystone_26 : decode cX6_keystone 26 = .ok (.if_icmp .ge 39, 3) := dk_162 0 39 (dk_at dksX6_keystone_1 2 rfl rfl)
theorem dX6_keystone_29 : decode cX6_keystone 29 = .ok (.aload_n 0, 1) := dk_42 (dk_at dksX6_keystone_1 5 rfl rfl)
theorem dX6_keystone_30 : decode cX6_keystone 30 = .ok (.iload_n 3, 1) := dk_29 (dk_at dksX6_keystone_1 6 rfl rfl)
theorem dX6_keystone_31 : decode cX6_keystone 31 = .ok (.invokevirtual 296, 3) := dk_182 1 40 (dk_at dksX6_keystone_1 7 rfl rfl)
theorem dX6_keystone_34 : decode cX6_keystone 34 = .ok (.ifCond .ne 25, 3) := dk_154 0 25 (dk_at dksX6_keystone_1 10 rfl rfl)
theorem dX6_keystone_37 : decode cX6_keystone 37 = .ok (.iload_n 2, 1) := dk_28 (dk_at dksX6_keystone_1 13 rfl rfl)
theorem dX6_keystone_38 : decode cX6_keystone 38 = .ok (.iconst (-1), 1) := dk_2 (dk_at dksX6_keystone_1 14 rfl rfl)
theorem dX6_keystone_39 : decode cX6_keystone 39 = .ok (.if_icmp .eq 18, 3) := dk_159 0 18 (dk_at dksX6_keystone_1 15 rfl rfl)
theorem dX6_keystone_42 : decode cX6_keystone 42 = .ok (.aload_n 0, 1) := dk_42 (dk_at dksX6_keystone_1 18 rfl rfl)
theorem dX6_keystone_43 : decode cX6_keystone 43 = .ok (.iload_n 3, 1) := dk_29 (dk_at dksX6_keystone_1 19 rfl rfl)
theorem dX6_keystone_44 : decode cX6_keystone 44 = .ok (.iload_n 1, 1) := dk_27 (dk_at dksX6_keystone_1 20 rfl rfl)
theorem dX6_keystone_45 : decode cX6_keystone 45 = .ok (.invokevirtual 351, 3) := dk_182 1 95 (dk_at dksX6_keystone_1 21 rfl rfl)
theorem dX6_keystone_48 : decode cX6_keystone 48 = .ok (.aload_n 0, 1) := dk_42 (dk_at dksX6_keystone_2 0 rfl rfl)
theorem dX6_keystone_49 : decode cX6_keystone 49 = .ok (.iload_n 2, 1) := dk_28 (dk_at dksX6_keystone_2 1 rfl rfl)
theorem dX6_keystone_50 : decode cX6_keystone 50 = .ok (.iload_n 1, 1) := dk_27 (dk_at dksX6_keystone_2 2 rfl rfl)
theorem dX6_keystone_51 : decode cX6_keystone 51 = .ok (.invokevirtual 351, 3) := dk_182 1 95 (dk_at dksX6_keystone_2 3 rfl rfl)
theorem dX6_keystone_54 : decode cX6_keystone 54 = .ok (.if_icmp .le 5, 3) := dk_164 0 5 (dk_at dksX6_keystone_2 6 rfl rfl)
theorem dX6_keystone_57 : decode cX6_keystone 57 = .ok (.iload_n 3, 1) := dk_29 (dk_at dksX6_keystone_2 9 rfl rfl)
theorem dX6_keystone_58 : decode cX6_keystone 58 = .ok (.istore_n 2, 1) := dk_61 (dk_at dksX6_keystone_2 10 rfl rfl)
theorem dX6_keystone_59 : decode cX6_keystone 59 = .ok (.iinc 3 1, 3) := dk_132 3 1 (dk_at dksX6_keystone_2 11 rfl rfl)
theorem dX6_keystone_62 : decode cX6_keystone 62 = .ok (.goto (-43), 3) := dk_167 255 213 (dk_at dksX6_keystone_2 14 rfl rfl)
theorem dX6_keystone_65 : decode cX6_keystone 65 = .ok (.aload_n 0, 1) := dk_42 (dk_at dksX6_keystone_2 17 rfl rfl)
theorem dX6_keystone_66 : decode cX6_keystone 66 = .ok (.iload_n 2, 1) := dk_28 (dk_at dksX6_keystone_2 18 rfl rfl)
theorem dX6_keystone_67 : decode cX6_keystone 67 = .ok (.invokevirtual 354, 3) := dk_182 1 98 (dk_at dksX6_keystone_2 19 rfl rfl)
theorem dX6_keystone_70 : decode cX6_keystone 70 = .ok (.ireturn, 1) := dk_172 (dk_at dksX6_keystone_2 22 rfl rfl)
abbrev cX6_orNone : ByteArray := prog_15_method_9_code
def yX6_orNone : MethodName := ⟨RX6, "orNone", "(I)I"⟩
def dkwX6_orNone_0 : List UInt8 := [27, 2, 160, 0, 10, 42, 16, 6, 182, 0, 78, 172, 42, 27, 182, 0, 82, 172]
abbrev dktX6_orNone_0 : List UInt8 := dkwX6_orNone_0 ++ []
theorem dksX6_orNone_0 : cX6_orNone.data.toList.drop 0 = dktX6_orNone_0 := by decide +kernel
theorem dX6_orNone_0 : decode cX6_orNone 0 = .ok (.iload_n 1, 1) := dk_27 (dk_at dksX6_orNone_0 0 rfl rfl)
theorem dX6_orNone_1 : decode cX6_orNone 1 = .ok (.iconst (-1), 1) := dk_2 (dk_at dksX6_orNone_0 1 rfl rfl)
theorem dX6_orNone_2 : decode cX6_orNone 2 = .ok (.if_icmp .ne 10, 3) := dk_160 0 10 (dk_at dksX6_orNone_0 2 rfl rfl)
theorem dX6_orNone_5 : decode cX6_orNone 5 = .ok (.aload_n 0, 1) := dk_42 (dk_at dksX6_orNone_0 5 rfl rfl)
theorem dX6_orNone_6 : decode cX6_orNone 6 = .ok (.bipush 6, 2) := dk_16 6 (dk_at dksX6_orNone_0 6 rfl rfl)
theorem dX6_orNone_8 : decode cX6_orNone 8 = .ok (.invokevirtual 78, 3) := dk_182 0 78 (dk_at dksX6_orNone_0 8 rfl rfl)
theorem dX6_orNone_11 : decode cX6_orNone 11 = .ok (.ireturn, 1) := dk_172 (dk_at dksX6_orNone_0 11 rfl rfl)
theorem dX6_orNone_12 : decode cX6_orNone 12 = .ok (.aload_n 0, 1) := dk_42 (dk_at dksX6_orNone_0 12 rfl rfl)
theorem dX6_orNone_13 : decode cX6_orNone 13 = .ok (.iload_n 1, 1) := dk_27 (dk_at dksX6_orNone_0 13 rfl rfl)
theorem dX6_orNone_14 : decode cX6_orNone 14 = .ok (.invokevirtual 82, 3) := dk_182 0 82 (dk_at dksX6_orNone_0 14 rfl rfl)
theorem dX6_orNone_17 : decode cX6_orNone 17 = .ok (.ireturn, 1) := dk_172 (dk_at dksX6_orNone_0 17 rfl rfl)
abbrev cX6_lures : ByteArray := prog_15_method_106_code
def yX6_lures : MethodName := ⟨RX6, "lures", "(I)I"⟩
def dkwX6_lures_2 : List UInt8 := [167, 0, 11, 42, 28, 184, 1, 49, 182, 0, 82, 172]
abbrev dktX6_lures_2 : List UInt8 := dkwX6_lures_2 ++ []
def dkwX6_lures_1 : List UInt8 := [16, 7, 182, 0, 78, 172, 42, 27, 182, 1, 101, 61, 28, 2, 160, 0, 12, 42, 16, 6, 182, 0, 78]
abbrev dktX6_lures_1 : List UInt8 := dkwX6_lures_1 ++ dktX6_lures_2
def dkwX6_lures_0 : List UInt8 := [42, 27, 182, 1, 34, 154, 0, 9, 42, 4, 182, 0, 78, 172, 42, 27, 182, 1, 40, 153, 0, 10, 42]
abbrev dktX6_lures_0 : List UInt8 := dkwX6_lures_0 ++ dktX6_lures_1
theorem dksX6_lures_0 : cX6_lures.data.toList.drop 0 = dktX6_lures_0 := by decide +kernel
theorem dksX6_lures_1 : cX6_lures.data.toList.drop 23 = dktX6_lures_1 := dk_seg dksX6_lures_0 23 rfl rfl
theorem dksX6_lures_2 : cX6_lures.data.toList.drop 46 = dktX6_lures_2 := dk_seg dksX6_lures_1 23 rfl rfl
theorem dX6_lures_0 : decode cX6_lures 0 = .ok (.aload_n 0, 1) := dk_42 (dk_at dksX6_lures_0 0 rfl rfl)
theorem dX6_lures_1 : decode cX6_lures 1 = .ok (.iload_n 1, 1) := dk_27 (dk_at dksX6_lures_0 1 rfl rfl)
theorem dX6_lures_2 : decode cX6_lures 2 = .ok (.invokevirtual 290, 3) := dk_182 1 34 (dk_at dksX6_lures_0 2 rfl rfl)
theorem dX6_lures_5 : decode cX6_lures 5 = .ok (.ifCond .ne 9, 3) := dk_154 0 9 (dk_at dksX6_lures_0 5 rfl rfl)
theorem dX6_lures_8 : decode cX6_lures 8 = .ok (.aload_n 0, 1) := dk_42 (dk_at dksX6_lures_0 8 rfl rfl)
theorem dX6_lures_9 : decode cX6_lures 9 = .ok (.iconst 1, 1) := dk_4 (dk_at dksX6_lures_0 9 rfl rfl)
theorem dX6_lures_10 : decode cX6_lures 10 = .ok (.invokevirtual 78, 3) := dk_182 0 78 (dk_at dksX6_lures_0 10 rfl rfl)
theorem dX6_lures_13 : decode cX6_lures 13 = .ok (.ireturn, 1) := dk_172 (dk_at dksX6_lures_0 13 rfl rfl)
theorem dX6_lures_14 : decode cX6_lures 14 = .ok (.aload_n 0, 1) := dk_42 (dk_at dksX6_lures_0 14 rfl rfl)
theorem dX6_lures_15 : decode cX6_lures 15 = .ok (.iload_n 1, 1) := dk_27 (dk_at dksX6_lures_0 15 rfl rfl)
theorem dX6_lures_16 : decode cX6_lures 16 = .ok (.invokevirtual 296, 3) := dk_182 1 40 (dk_at dksX6_lures_0 16 rfl rfl)
theorem dX6_lures_19 : decode cX6_lures 19 = .ok (.ifCond .eq 10, 3) := dk_153 0 10 (dk_at dksX6_lures_0 19 rfl rfl)
theorem dX6_lures_22 : decode cX6_lures 22 = .ok (.aload_n 0, 1) := dk_42 (dk_at dksX6_lures_0 22 rfl rfl)
theorem dX6_lures_23 : decode cX6_lures 23 = .ok (.bipush 7, 2) := dk_16 7 (dk_at dksX6_lures_1 0 rfl rfl)
theorem dX6_lures_25 : decode cX6_lures 25 = .ok (.invokevirtual 78, 3) := dk_182 0 78 (dk_at dksX6_lures_1 2 rfl rfl)
theorem dX6_lures_28 : decode cX6_lures 28 = .ok (.ireturn, 1) := dk_172 (dk_at dksX6_lures_1 5 rfl rfl)
theorem dX6_lures_29 : decode cX6_lures 29 = .ok (.aload_n 0, 1) := dk_42 (dk_at dksX6_lures_1 6 rfl rfl)
theorem dX6_lures_30 : decode cX6_lures 30 = .ok (.iload_n 1, 1) := dk_27 (dk_at dksX6_lures_1 7 rfl rfl)
theorem dX6_lures_31 : decode cX6_lures 31 = .ok (.invokevirtual 357, 3) := dk_182 1 101 (dk_at dksX6_lures_1 8 rfl rfl)
theorem dX6_lures_34 : decode cX6_lures 34 = .ok (.istore_n 2, 1) := dk_61 (dk_at dksX6_lures_1 11 rfl rfl)
theorem dX6_lures_35 : decode cX6_lures 35 = .ok (.iload_n 2, 1) := dk_28 (dk_at dksX6_lures_1 12 rfl rfl)
theorem dX6_lures_36 : decode cX6_lures 36 = .ok (.iconst (-1), 1) := dk_2 (dk_at dksX6_lures_1 13 rfl rfl)
theorem dX6_lures_37 : decode cX6_lures 37 = .ok (.if_icmp .ne 12, 3) := dk_160 0 12 (dk_at dksX6_lures_1 14 rfl rfl)
theorem dX6_lures_40 : decode cX6_lures 40 = .ok (.aload_n 0, 1) := dk_42 (dk_at dksX6_lures_1 17 rfl rfl)
theorem dX6_lures_41 : decode cX6_lures 41 = .ok (.bipush 6, 2) := dk_16 6 (dk_at dksX6_lures_1 18 rfl rfl)
theorem dX6_lures_43 : decode cX6_lures 43 = .ok (.invokevirtual 78, 3) := dk_182 0 78 (dk_at dksX6_lures_1 20 rfl rfl)
theorem dX6_lures_46 : decode cX6_lures 46 = .ok (.goto 11, 3) := dk_167 0 11 (dk_at dksX6_lures_2 0 rfl rfl)
theorem dX6_lures_49 : decode cX6_lures 49 = .ok (.aload_n 0, 1) := dk_42 (dk_at dksX6_lures_2 3 rfl rfl)
theorem dX6_lures_50 : decode cX6_lures 50 = .ok (.iload_n 2, 1) := dk_28 (dk_at dksX6_lures_2 4 rfl rfl)
theorem dX6_lures_51 : decode cX6_lures 51 = .ok (.invokestatic 305, 3) := dk_184 1 49 (dk_at dksX6_lures_2 5 rfl rfl)
theorem dX6_lures_54 : decode cX6_lures 54 = .ok (.invokevirtual 82, 3) := dk_182 0 82 (dk_at dksX6_lures_2 8 rfl rfl)
theorem dX6_lures_57 : decode cX6_lures 57 = .ok (.ireturn, 1) := dk_172 (dk_at dksX6_lures_2 11 rfl rfl)
abbrev cX6_luring : ByteArray := prog_15_method_105_code
def yX6_luring : MethodName := ⟨RX6, "luring", "(I)I"⟩
def dkwX6_luring_2 : List UInt8 := [61, 132, 3, 1, 167, 255, 210, 28, 172]
abbrev dktX6_luring_2 : List UInt8 := dkwX6_luring_2 ++ []
def dkwX6_luring_1 : List UInt8 := [184, 1, 49, 162, 0, 22, 42, 42, 42, 182, 1, 22, 29, 182, 1, 56, 27, 182, 1, 7, 153, 0, 5, 29]
abbrev dktX6_luring_1 : List UInt8 := dkwX6_luring_1 ++ dktX6_luring_2
def dkwX6_luring_0 : List UInt8 := [2, 61, 3, 62, 29, 42, 182, 0, 253, 163, 0, 44, 28, 2, 159, 0, 14, 29, 184, 1, 49, 28]
abbrev dktX6_luring_0 : List UInt8 := dkwX6_luring_0 ++ dktX6_luring_1
theorem dksX6_luring_0 : cX6_luring.data.toList.drop 0 = dktX6_luring_0 := by decide +kernel
theorem dksX6_luring_1 : cX6_luring.data.toList.drop 22 = dktX6_luring_1 := dk_seg dksX6_luring_0 22 rfl rfl
theorem dksX6_luring_2 : cX6_luring.data.toList.drop 46 = dktX6_luring_2 := dk_seg dksX6_luring_1 24 rfl rfl
theorem dX6_luring_0 : decode cX6_luring 0 = .ok (.iconst (-1), 1) := dk_2 (dk_at dksX6_luring_0 0 rfl rfl)
theorem dX6_luring_1 : decode cX6_luring 1 = .ok (.istore_n 2, 1) := dk_61 (dk_at dksX6_luring_0 1 rfl rfl)
theorem dX6_luring_2 : decode cX6_luring 2 = .ok (.iconst 0, 1) := dk_3 (dk_at dksX6_luring_0 2 rfl rfl)
theorem dX6_luring_3 : decode cX6_luring 3 = .ok (.istore_n 3, 1) := dk_62 (dk_at dksX6_luring_0 3 rfl rfl)
theorem dX6_luring_4 : decode cX6_luring 4 = .ok (.iload_n 3, 1) := dk_29 (dk_at dksX6_luring_0 4 rfl rfl)
theorem dX6_luring_5 : decode cX6_luring 5 = .ok (.aload_n 0, 1) := dk_42 (dk_at dksX6_luring_0 5 rfl rfl)
theorem dX6_luring_6 : decode cX6_luring 6 = .ok (.invokevirtual 253, 3) := dk_182 0 253 (dk_at dksX6_luring_0 6 rfl rfl)
theorem dX6_luring_9 : decode cX6_luring 9 = .ok (.if_icmp .gt 44, 3) := dk_163 0 44 (dk_at dksX6_luring_0 9 rfl rfl)
theorem dX6_luring_12 : decode cX6_luring 12 = .ok (.iload_n 2, 1) := dk_28 (dk_at dksX6_luring_0 12 rfl rfl)
theorem dX6_luring_13 : decode cX6_luring 13 = .ok (.iconst (-1), 1) := dk_2 (dk_at dksX6_luring_0 13 rfl rfl)
theorem dX6_luring_14 : decode cX6_luring 14 = .ok (.if_icmp .eq 14, 3) := dk_159 0 14 (dk_at dksX6_luring_0 14 rfl rfl)
theorem dX6_luring_17 : decode cX6_luring 17 = .ok (.iload_n 3, 1) := dk_29 (dk_at dksX6_luring_0 17 rfl rfl)
theorem dX6_luring_18 : decode cX6_luring 18 = .ok (.invokestatic 305, 3) := dk_184 1 49 (dk_at dksX6_luring_0 18 rfl rfl)
theorem dX6_luring_21 : decode cX6_luring 21 = .ok (.iload_n 2, 1) := dk_28 (dk_at dksX6_luring_0 21 rfl rfl)
theorem dX6_luring_22 : decode cX6_luring 22 = .ok (.invokestatic 305, 3) := dk_184 1 49 (dk_at dksX6_luring_1 0 rfl rfl)
theorem dX6_luring_25 : decode cX6_luring 25 = .ok (.if_icmp .ge 22, 3) := dk_162 0 22 (dk_at dksX6_luring_1 3 rfl rfl)
theorem dX6_luring_28 : decode cX6_luring 28 = .ok (.aload_n 0, 1) := dk_42 (dk_at dksX6_luring_1 6 rfl rfl)
theorem dX6_luring_29 : decode cX6_luring 29 = .ok (.aload_n 0, 1) := dk_42 (dk_at dksX6_luring_1 7 rfl rfl)
theorem dX6_luring_30 : decode cX6_luring 30 = .ok (.aload_n 0, 1) := dk_42 (dk_at dksX6_luring_1 8 rfl rfl)
theorem dX6_luring_31 : decode cX6_luring 31 = .ok (.invokevirtual 278, 3) := dk_182 1 22 (dk_at dksX6_luring_1 9 rfl rfl)
theorem dX6_luring_34 : decode cX6_luring 34 = .ok (.iload_n 3, 1) := dk_29 (dk_at dksX6_luring_1 12 rfl rfl)
theorem dX6_luring_35 : decode cX6_luring 35 = .ok (.invokevirtual 312, 3) := dk_182 1 56 (dk_at dksX6_luring_1 13 rfl rfl)
theorem dX6_luring_38 : decode cX6_luring 38 = .ok (.iload_n 1, 1) := dk_27 (dk_at dksX6_luring_1 16 rfl rfl)
theorem dX6_luring_39 : decode cX6_luring 39 = .ok (.invokevirtual 263, 3) := dk_182 1 7 (dk_at dksX6_luring_1 17 rfl rfl)
theorem dX6_luring_42 : decode cX6_luring 42 = .ok (.ifCond .eq 5, 3) := dk_153 0 5 (dk_at dksX6_luring_1 20 rfl rfl)
theorem dX6_luring_45 : decode cX6_luring 45 = .ok (.iload_n 3, 1) := dk_29 (dk_at dksX6_luring_1 23 rfl rfl)
theorem dX6_luring_46 : decode cX6_luring 46 = .ok (.istore_n 2, 1) := dk_61 (dk_at dksX6_luring_2 0 rfl rfl)
theorem dX6_luring_47 : decode cX6_luring 47 = .ok (.iinc 3 1, 3) := dk_132 3 1 (dk_at dksX6_luring_2 1 rfl rfl)
theorem dX6_luring_50 : decode cX6_luring 50 = .ok (.goto (-46), 3) := dk_167 255 210 (dk_at dksX6_luring_2 4 rfl rfl)
theorem dX6_luring_53 : decode cX6_luring 53 = .ok (.iload_n 2, 1) := dk_28 (dk_at dksX6_luring_2 7 rfl rfl)
theorem dX6_luring_54 : decode cX6_luring 54 = .ok (.ireturn, 1) := dk_172 (dk_at dksX6_luring_2 8 rfl rfl)
abbrev cX6_lureSet : ByteArray := prog_15_method_107_code
def yX6_lureSet : MethodName := ⟨RX6, "lureSet", "(I)I"⟩
def dkwX6_lureSet_1 : List UInt8 := [16, 7, 182, 0, 78, 167, 0, 12, 42, 42, 27, 182, 1, 101, 182, 1, 98, 172]
abbrev dktX6_lureSet_1 : List UInt8 := dkwX6_lureSet_1 ++ []
def dkwX6_lureSet_0 : List UInt8 := [42, 27, 182, 1, 34, 154, 0, 9, 42, 4, 182, 0, 78, 172, 42, 27, 182, 1, 40, 153, 0, 12, 42]
abbrev dktX6_lureSet_0 : List UInt8 := dkwX6_lureSet_0 ++ dktX6_lureSet_1
theorem dksX6_lureSet_0 : cX6_lureSet.data.toList.drop 0 = dktX6_lureSet_0 := by decide +kernel
theorem dksX6_lureSet_1 : cX6_lureSet.data.toList.drop 23 = dktX6_lureSet_1 := dk_seg dksX6_lureSet_0 23 rfl rfl
theorem dX6_lureSet_0 : decode cX6_lureSet 0 = .ok (.aload_n 0, 1) := dk_42 (dk_at dksX6_lureSet_0 0 rfl rfl)
theorem dX6_lureSet_1 : decode cX6_lureSet 1 = .ok (.iload_n 1, 1) := dk_27 (dk_at dksX6_lureSet_0 1 rfl rfl)
theorem dX6_lureSet_2 : decode cX6_lureSet 2 = .ok (.invokevirtual 290, 3) := dk_182 1 34 (dk_at dksX6_lureSet_0 2 rfl rfl)
theorem dX6_lureSet_5 : decode cX6_lureSet 5 = .ok (.ifCond .ne 9, 3) := dk_154 0 9 (dk_at dksX6_lureSet_0 5 rfl rfl)
theorem dX6_lureSet_8 : decode cX6_lureSet 8 = .ok (.aload_n 0, 1) := dk_42 (dk_at dksX6_lureSet_0 8 rfl rfl)
theorem dX6_lureSet_9 : decode cX6_lureSet 9 = .ok (.iconst 1, 1) := dk_4 (dk_at dksX6_lureSet_0 9 rfl rfl)
theorem dX6_lureSet_10 : decode cX6_lureSet 10 = .ok (.invokevirtual 78, 3) := dk_182 0 78 (dk_at dksX6_lureSet_0 10 rfl rfl)
theorem dX6_lureSet_13 : decode cX6_lureSet 13 = .ok (.ireturn, 1) := dk_172 (dk_at dksX6_lureSet_0 13 rfl rfl)
theorem dX6_lureSet_14 : decode cX6_lureSet 14 = .ok (.aload_n 0, 1) := dk_42 (dk_at dksX6_lureSet_0 14 rfl rfl)
theorem dX6_lureSet_15 : decode cX6_lureSet 15 = .ok (.iload_n 1, 1) := dk_27 (dk_at dksX6_lureSet_0 15 rfl rfl)
theorem dX6_lureSet_16 : decode cX6_lureSet 16 = .ok (.invokevirtual 296, 3) := dk_182 1 40 (dk_at dksX6_lureSet_0 16 rfl rfl)
theorem dX6_lureSet_19 : decode cX6_lureSet 19 = .ok (.ifCond .eq 12, 3) := dk_153 0 12 (dk_at dksX6_lureSet_0 19 rfl rfl)
theorem dX6_lureSet_22 : decode cX6_lureSet 22 = .ok (.aload_n 0, 1) := dk_42 (dk_at dksX6_lureSet_0 22 rfl rfl)
theorem dX6_lureSet_23 : decode cX6_lureSet 23 = .ok (.bipush 7, 2) := dk_16 7 (dk_at dksX6_lureSet_1 0 rfl rfl)
theorem dX6_lureSet_25 : decode cX6_lureSet 25 = .ok (.invokevirtual 78, 3) := dk_182 0 78 (dk_at dksX6_lureSet_1 2 rfl rfl)
theorem dX6_lureSet_28 : decode cX6_lureSet 28 = .ok (.goto 12, 3) := dk_167 0 12 (dk_at dksX6_lureSet_1 5 rfl rfl)
theorem dX6_lureSet_31 : decode cX6_lureSet 31 = .ok (.aload_n 0, 1) := dk_42 (dk_at dksX6_lureSet_1 8 rfl rfl)
theorem dX6_lureSet_32 : decode cX6_lureSet 32 = .ok (.aload_n 0, 1) := dk_42 (dk_at dksX6_lureSet_1 9 rfl rfl)
theorem dX6_lureSet_33 : decode cX6_lureSet 33 = .ok (.iload_n 1, 1) := dk_27 (dk_at dksX6_lureSet_1 10 rfl rfl)
theorem dX6_lureSet_34 : decode cX6_lureSet 34 = .ok (.invokevirtual 357, 3) := dk_182 1 101 (dk_at dksX6_lureSet_1 11 rfl rfl)
theorem dX6_lureSet_37 : decode cX6_lureSet 37 = .ok (.invokevirtual 354, 3) := dk_182 1 98 (dk_at dksX6_lureSet_1 14 rfl rfl)
theorem dX6_lureSet_40 : decode cX6_lureSet 40 = .ok (.ireturn, 1) := dk_172 (dk_at dksX6_lureSet_1 17 rfl rfl)
abbrev cX6_best : ByteArray := prog_15_method_109_code
def yX6_best : MethodName := ⟨RX6, "best", "()I"⟩
def dkwX6_best_0 : List UInt8 := [42, 42, 182, 1, 104, 182, 0, 82, 172]
abbrev dktX6_best_0 : List UInt8 := dkwX6_best_0 ++ []
theorem dksX6_best_0 : cX6_best.data.toList.drop 0 = dktX6_best_0 := by decide +kernel
theorem dX6_best_0 : decode cX6_best 0 = .ok (.aload_n 0, 1) := dk_42 (dk_at dksX6_best_0 0 rfl rfl)
theorem dX6_best_1 : decode cX6_best 1 = .ok (.aload_n 0, 1) := dk_42 (dk_at dksX6_best_0 1 rfl rfl)
theorem dX6_best_2 : decode cX6_best 2 = .ok (.invokevirtual 360, 3) := dk_182 1 104 (dk_at dksX6_best_0 2 rfl rfl)
theorem dX6_best_5 : decode cX6_best 5 = .ok (.invokevirtual 82, 3) := dk_182 0 82 (dk_at dksX6_best_0 5 rfl rfl)
theorem dX6_best_8 : decode cX6_best 8 = .ok (.ireturn, 1) := dk_172 (dk_at dksX6_best_0 8 rfl rfl)
abbrev cX6_bestOmens : ByteArray := prog_15_method_108_code
def yX6_bestOmens : MethodName := ⟨RX6, "bestOmens", "()I"⟩
def dkwX6_bestOmens_2 : List UInt8 := [184, 1, 49, 27, 184, 1, 49, 162, 0, 5, 28, 60, 132, 2, 1, 167, 255, 198, 27, 172]
abbrev dktX6_bestOmens_2 : List UInt8 := dkwX6_bestOmens_2 ++ []
def dkwX6_bestOmens_1 : List UInt8 := [42, 42, 182, 1, 22, 27, 182, 1, 56, 184, 1, 49, 100, 62, 29, 157, 0, 18, 29, 154, 0, 16, 28]
abbrev dktX6_bestOmens_1 : List UInt8 := dkwX6_bestOmens_1 ++ dktX6_bestOmens_2
def dkwX6_bestOmens_0 : List UInt8 := [3, 60, 4, 61, 28, 42, 182, 0, 253, 163, 0, 56, 42, 42, 182, 1, 22, 28, 182, 1, 56, 184, 1, 49]
abbrev dktX6_bestOmens_0 : List UInt8 := dkwX6_bestOmens_0 ++ dktX6_bestOmens_1
theorem dksX6_bestOmens_0 : cX6_bestOmens.data.toList.drop 0 = dktX6_bestOmens_0 := by decide +kernel
theorem dksX6_bestOmens_1 : cX6_bestOmens.data.toList.drop 24 = dktX6_bestOmens_1 := dk_seg dksX6_bestOmens_0 24 rfl rfl
theorem dksX6_bestOmens_2 : cX6_bestOmens.data.toList.drop 47 = dktX6_bestOmens_2 := dk_seg dksX6_bestOmens_1 23 rfl rfl
theorem dX6_bestOmens_0 : decode cX6_bestOmens 0 = .ok (.iconst 0, 1) := dk_3 (dk_at dksX6_bestOmens_0 0 rfl rfl)
theorem dX6_bestOmens_1 : decode cX6_bestOmens 1 = .ok (.istore_n 1, 1) := dk_60 (dk_at dksX6_bestOmens_0 1 rfl rfl)
theorem dX6_bestOmens_2 : decode cX6_bestOmens 2 = .ok (.iconst 1, 1) := dk_4 (dk_at dksX6_bestOmens_0 2 rfl rfl)
theorem dX6_bestOmens_3 : decode cX6_bestOmens 3 = .ok (.istore_n 2, 1) := dk_61 (dk_at dksX6_bestOmens_0 3 rfl rfl)
theorem dX6_bestOmens_4 : decode cX6_bestOmens 4 = .ok (.iload_n 2, 1) := dk_28 (dk_at dksX6_bestOmens_0 4 rfl rfl)
theorem dX6_bestOmens_5 : decode cX6_bestOmens 5 = .ok (.aload_n 0, 1) := dk_42 (dk_at dksX6_bestOmens_0 5 rfl rfl)
theorem dX6_bestOmens_6 : decode cX6_bestOmens 6 = .ok (.invokevirtual 253, 3) := dk_182 0 253 (dk_at dksX6_bestOmens_0 6 rfl rfl)
theorem dX6_bestOmens_9 : decode cX6_bestOmens 9 = .ok (.if_icmp .gt 56, 3) := dk_163 0 56 (dk_at dksX6_bestOmens_0 9 rfl rfl)
theorem dX6_bestOmens_12 : decode cX6_bestOmens 12 = .ok (.aload_n 0, 1) := dk_42 (dk_at dksX6_bestOmens_0 12 rfl rfl)
theorem dX6_bestOmens_13 : decode cX6_bestOmens 13 = .ok (.aload_n 0, 1) := dk_42 (dk_at dksX6_bestOmens_0 13 rfl rfl)
theorem dX6_bestOmens_14 : decode cX6_bestOmens 14 = .ok (.invokevirtual 278, 3) := dk_182 1 22 (dk_at dksX6_bestOmens_0 14 rfl rfl)
theorem dX6_bestOmens_17 : decode cX6_bestOmens 17 = .ok (.iload_n 2, 1) := dk_28 (dk_at dksX6_bestOmens_0 17 rfl rfl)
theorem dX6_bestOmens_18 : decode cX6_bestOmens 18 = .ok (.invokevirtual 312, 3) := dk_182 1 56 (dk_at dksX6_bestOmens_0 18 rfl rfl)
theorem dX6_bestOmens_21 : decode cX6_bestOmens 21 = .ok (.invokestatic 305, 3) := dk_184 1 49 (dk_at dksX6_bestOmens_0 21 rfl rfl)
theorem dX6_bestOmens_24 : decode cX6_bestOmens 24 = .ok (.aload_n 0, 1) := dk_42 (dk_at dksX6_bestOmens_1 0 rfl rfl)
theorem dX6_bestOmens_25 : decode cX6_bestOmens 25 = .ok (.aload_n 0, 1) := dk_42 (dk_at dksX6_bestOmens_1 1 rfl rfl)
theorem dX6_bestOmens_26 : decode cX6_bestOmens 26 = .ok (.invokevirtual 278, 3) := dk_182 1 22 (dk_at dksX6_bestOmens_1 2 rfl rfl)
theorem dX6_bestOmens_29 : decode cX6_bestOmens 29 = .ok (.iload_n 1, 1) := dk_27 (dk_at dksX6_bestOmens_1 5 rfl rfl)
theorem dX6_bestOmens_30 : decode cX6_bestOmens 30 = .ok (.invokevirtual 312, 3) := dk_182 1 56 (dk_at dksX6_bestOmens_1 6 rfl rfl)
theorem dX6_bestOmens_33 : decode cX6_bestOmens 33 = .ok (.invokestatic 305, 3) := dk_184 1 49 (dk_at dksX6_bestOmens_1 9 rfl rfl)
theorem dX6_bestOmens_36 : decode cX6_bestOmens 36 = .ok (.isub, 1) := dk_100 (dk_at dksX6_bestOmens_1 12 rfl rfl)
theorem dX6_bestOmens_37 : decode cX6_bestOmens 37 = .ok (.istore_n 3, 1) := dk_62 (dk_at dksX6_bestOmens_1 13 rfl rfl)
theorem dX6_bestOmens_38 : decode cX6_bestOmens 38 = .ok (.iload_n 3, 1) := dk_29 (dk_at dksX6_bestOmens_1 14 rfl rfl)
theorem dX6_bestOmens_39 : decode cX6_bestOmens 39 = .ok (.ifCond .gt 18, 3) := dk_157 0 18 (dk_at dksX6_bestOmens_1 15 rfl rfl)
theorem dX6_bestOmens_42 : decode cX6_bestOmens 42 = .ok (.iload_n 3, 1) := dk_29 (dk_at dksX6_bestOmens_1 18 rfl rfl)
theorem dX6_bestOmens_43 : decode cX6_bestOmens 43 = .ok (.ifCond .ne 16, 3) := dk_154 0 16 (dk_at dksX6_bestOmens_1 19 rfl rfl)
theorem dX6_bestOmens_46 : decode cX6_bestOmens 46 = .ok (.iload_n 2, 1) := dk_28 (dk_at dksX6_bestOmens_1 22 rfl rfl)
theorem dX6_bestOmens_47 : decode cX6_bestOmens 47 = .ok (.invokestatic 305, 3) := dk_184 1 49 (dk_at dksX6_bestOmens_2 0 rfl rfl)
theorem dX6_bestOmens_50 : decode cX6_bestOmens 50 = .ok (.iload_n 1, 1) := dk_27 (dk_at dksX6_bestOmens_2 3 rfl rfl)
theorem dX6_bestOmens_51 : decode cX6_bestOmens 51 = .ok (.invokestatic 305, 3) := dk_184 1 49 (dk_at dksX6_bestOmens_2 4 rfl rfl)
theorem dX6_bestOmens_54 : decode cX6_bestOmens 54 = .ok (.if_icmp .ge 5, 3) := dk_162 0 5 (dk_at dksX6_bestOmens_2 7 rfl rfl)
theorem dX6_bestOmens_57 : decode cX6_bestOmens 57 = .ok (.iload_n 2, 1) := dk_28 (dk_at dksX6_bestOmens_2 10 rfl rfl)
theorem dX6_bestOmens_58 : decode cX6_bestOmens 58 = .ok (.istore_n 1, 1) := dk_60 (dk_at dksX6_bestOmens_2 11 rfl rfl)
theorem dX6_bestOmens_59 : decode cX6_bestOmens 59 = .ok (.iinc 2 1, 3) := dk_132 2 1 (dk_at dksX6_bestOmens_2 12 rfl rfl)
theorem dX6_bestOmens_62 : decode cX6_bestOmens 62 = .ok (.goto (-58), 3) := dk_167 255 198 (dk_at dksX6_bestOmens_2 15 rfl rfl)
theorem dX6_bestOmens_65 : decode cX6_bestOmens 65 = .ok (.iload_n 1, 1) := dk_27 (dk_at dksX6_bestOmens_2 18 rfl rfl)
theorem dX6_bestOmens_66 : decode cX6_bestOmens 66 = .ok (.ireturn, 1) := dk_172 (dk_at dksX6_bestOmens_2 19 rfl rfl)
abbrev cX6_bestOut : ByteArray := prog_15_method_110_code
def yX6_bestOut : MethodName := ⟨RX6, "bestOut", "()I"⟩
def dkwX6_bestOut_0 : List UInt8 := [42, 42, 42, 182, 1, 22, 42, 182, 1, 104, 182, 1, 56, 184, 1, 49, 182, 0, 82, 172]
abbrev dktX6_bestOut_0 : List UInt8 := dkwX6_bestOut_0 ++ []
theorem dksX6_bestOut_0 : cX6_bestOut.data.toList.drop 0 = dktX6_bestOut_0 := by decide +kernel
theorem dX6_bestOut_0 : decode cX6_bestOut 0 = .ok (.aload_n 0, 1) := dk_42 (dk_at dksX6_bestOut_0 0 rfl rfl)
theorem dX6_bestOut_1 : decode cX6_bestOut 1 = .ok (.aload_n 0, 1) := dk_42 (dk_at dksX6_bestOut_0 1 rfl rfl)
theorem dX6_bestOut_2 : decode cX6_bestOut 2 = .ok (.aload_n 0, 1) := dk_42 (dk_at dksX6_bestOut_0 2 rfl rfl)
theorem dX6_bestOut_3 : decode cX6_bestOut 3 = .ok (.invokevirtual 278, 3) := dk_182 1 22 (dk_at dksX6_bestOut_0 3 rfl rfl)
theorem dX6_bestOut_6 : decode cX6_bestOut 6 = .ok (.aload_n 0, 1) := dk_42 (dk_at dksX6_bestOut_0 6 rfl rfl)
theorem dX6_bestOut_7 : decode cX6_bestOut 7 = .ok (.invokevirtual 360, 3) := dk_182 1 104 (dk_at dksX6_bestOut_0 7 rfl rfl)
theorem dX6_bestOut_10 : decode cX6_bestOut 10 = .ok (.invokevirtual 312, 3) := dk_182 1 56 (dk_at dksX6_bestOut_0 10 rfl rfl)
theorem dX6_bestOut_13 : decode cX6_bestOut 13 = .ok (.invokestatic 305, 3) := dk_184 1 49 (dk_at dksX6_bestOut_0 13 rfl rfl)
theorem dX6_bestOut_16 : decode cX6_bestOut 16 = .ok (.invokevirtual 82, 3) := dk_182 0 82 (dk_at dksX6_bestOut_0 16 rfl rfl)
theorem dX6_bestOut_19 : decode cX6_bestOut 19 = .ok (.ireturn, 1) := dk_172 (dk_at dksX6_bestOut_0 19 rfl rfl)
abbrev cX6_never : ByteArray := prog_15_method_111_code
def yX6_never : MethodName := ⟨RX6, "never", "()I"⟩
def dkwX6_never_1 : List UInt8 := [182, 1, 56, 2, 130, 126, 60, 132, 2, 1, 167, 255, 231, 42, 27, 182, 0, 82, 172]
abbrev dktX6_never_1 : List UInt8 := dkwX6_never_1 ++ []
def dkwX6_never_0 : List UInt8 := [42, 182, 1, 22, 60, 3, 61, 28, 42, 182, 0, 253, 163, 0, 23, 27, 42, 42, 182, 1, 22, 28]
abbrev dktX6_never_0 : List UInt8 := dkwX6_never_0 ++ dktX6_never_1
theorem dksX6_never_0 : cX6_never.data.toList.drop 0 = dktX6_never_0 := by decide +kernel
theorem dksX6_never_1 : cX6_never.data.toList.drop 22 = dktX6_never_1 := dk_seg dksX6_never_0 22 rfl rfl
theorem dX6_never_0 : decode cX6_never 0 = .ok (.aload_n 0, 1) := dk_42 (dk_at dksX6_never_0 0 rfl rfl)
theorem dX6_never_1 : decode cX6_never 1 = .ok (.invokevirtual 278, 3) := dk_182 1 22 (dk_at dksX6_never_0 1 rfl rfl)
theorem dX6_never_4 : decode cX6_never 4 = .ok (.istore_n 1, 1) := dk_60 (dk_at dksX6_never_0 4 rfl rfl)
theorem dX6_never_5 : decode cX6_never 5 = .ok (.iconst 0, 1) := dk_3 (dk_at dksX6_never_0 5 rfl rfl)
theorem dX6_never_6 : decode cX6_never 6 = .ok (.istore_n 2, 1) := dk_61 (dk_at dksX6_never_0 6 rfl rfl)
theorem dX6_never_7 : decode cX6_never 7 = .ok (.iload_n 2, 1) := dk_28 (dk_at dksX6_never_0 7 rfl rfl)
theorem dX6_never_8 : decode cX6_never 8 = .ok (.aload_n 0, 1) := dk_42 (dk_at dksX6_never_0 8 rfl rfl)
theorem dX6_never_9 : decode cX6_never 9 = .ok (.invokevirtual 253, 3) := dk_182 0 253 (dk_at dksX6_never_0 9 rfl rfl)
theorem dX6_never_12 : decode cX6_never 12 = .ok (.if_icmp .gt 23, 3) := dk_163 0 23 (dk_at dksX6_never_0 12 rfl rfl)
theorem dX6_never_15 : decode cX6_never 15 = .ok (.iload_n 1, 1) := dk_27 (dk_at dksX6_never_0 15 rfl rfl)
theorem dX6_never_16 : decode cX6_never 16 = .ok (.aload_n 0, 1) := dk_42 (dk_at dksX6_never_0 16 rfl rfl)
theorem dX6_never_17 : decode cX6_never 17 = .ok (.aload_n 0, 1) := dk_42 (dk_at dksX6_never_0 17 rfl rfl)
theorem dX6_never_18 : decode cX6_never 18 = .ok (.invokevirtual 278, 3) := dk_182 1 22 (dk_at dksX6_never_0 18 rfl rfl)
theorem dX6_never_21 : decode cX6_never 21 = .ok (.iload_n 2, 1) := dk_28 (dk_at dksX6_never_0 21 rfl rfl)
theorem dX6_never_22 : decode cX6_never 22 = .ok (.invokevirtual 312, 3) := dk_182 1 56 (dk_at dksX6_never_1 0 rfl rfl)
theorem dX6_never_25 : decode cX6_never 25 = .ok (.iconst (-1), 1) := dk_2 (dk_at dksX6_never_1 3 rfl rfl)
theorem dX6_never_26 : decode cX6_never 26 = .ok (.ixor, 1) := dk_130 (dk_at dksX6_never_1 4 rfl rfl)
theorem dX6_never_27 : decode cX6_never 27 = .ok (.iand, 1) := dk_126 (dk_at dksX6_never_1 5 rfl rfl)
theorem dX6_never_28 : decode cX6_never 28 = .ok (.istore_n 1, 1) := dk_60 (dk_at dksX6_never_1 6 rfl rfl)
theorem dX6_never_29 : decode cX6_never 29 = .ok (.iinc 2 1, 3) := dk_132 2 1 (dk_at dksX6_never_1 7 rfl rfl)
theorem dX6_never_32 : decode cX6_never 32 = .ok (.goto (-25), 3) := dk_167 255 231 (dk_at dksX6_never_1 10 rfl rfl)
theorem dX6_never_35 : decode cX6_never 35 = .ok (.aload_n 0, 1) := dk_42 (dk_at dksX6_never_1 13 rfl rfl)
theorem dX6_never_36 : decode cX6_never 36 = .ok (.iload_n 1, 1) := dk_27 (dk_at dksX6_never_1 14 rfl rfl)
theorem dX6_never_37 : decode cX6_never 37 = .ok (.invokevirtual 82, 3) := dk_182 0 82 (dk_at dksX6_never_1 15 rfl rfl)
theorem dX6_never_40 : decode cX6_never 40 = .ok (.ireturn, 1) := dk_172 (dk_at dksX6_never_1 18 rfl rfl)
abbrev cX6_outIn : ByteArray := prog_15_method_115_code
def yX6_outIn : MethodName := ⟨RX6, "outIn", "(I)I"⟩
def dkwX6_outIn_2 : List UInt8 := [28, 182, 0, 82, 172]
abbrev dktX6_outIn_2 : List UInt8 := dkwX6_outIn_2 ++ []
def dkwX6_outIn_1 : List UInt8 := [182, 1, 109, 42, 27, 182, 1, 112, 42, 180, 0, 7, 16, 7, 46, 61, 42, 17, 9, 192, 182, 1, 115, 42]
abbrev dktX6_outIn_1 : List UInt8 := dkwX6_outIn_1 ++ dktX6_outIn_2
def dkwX6_outIn_0 : List UInt8 := [27, 133, 9, 20, 1, 107, 184, 1, 0, 154, 0, 9, 42, 4, 182, 0, 78, 172, 42, 17, 9, 192]
abbrev dktX6_outIn_0 : List UInt8 := dkwX6_outIn_0 ++ dktX6_outIn_1
theorem dksX6_outIn_0 : cX6_outIn.data.toList.drop 0 = dktX6_outIn_0 := by decide +kernel
theorem dksX6_outIn_1 : cX6_outIn.data.toList.drop 22 = dktX6_outIn_1 := dk_seg dksX6_outIn_0 22 rfl rfl
theorem dksX6_outIn_2 : cX6_outIn.data.toList.drop 46 = dktX6_outIn_2 := dk_seg dksX6_outIn_1 24 rfl rfl
theorem dX6_outIn_0 : decode cX6_outIn 0 = .ok (.iload_n 1, 1) := dk_27 (dk_at dksX6_outIn_0 0 rfl rfl)
theorem dX6_outIn_1 : decode cX6_outIn 1 = .ok (.i2l, 1) := dk_133 (dk_at dksX6_outIn_0 1 rfl rfl)
theorem dX6_outIn_2 : decode cX6_outIn 2 = .ok (.lconst 0, 1) := dk_9 (dk_at dksX6_outIn_0 2 rfl rfl)
theorem dX6_outIn_3 : decode cX6_outIn 3 = .ok (.ldc2_w 363, 3) := dk_20 1 107 (dk_at dksX6_outIn_0 3 rfl rfl)
theorem dX6_outIn_6 : decode cX6_outIn 6 = .ok (.invokestatic 256, 3) := dk_184 1 0 (dk_at dksX6_outIn_0 6 rfl rfl)
theorem dX6_outIn_9 : decode cX6_outIn 9 = .ok (.ifCond .ne 9, 3) := dk_154 0 9 (dk_at dksX6_outIn_0 9 rfl rfl)
theorem dX6_outIn_12 : decode cX6_outIn 12 = .ok (.aload_n 0, 1) := dk_42 (dk_at dksX6_outIn_0 12 rfl rfl)
theorem dX6_outIn_13 : decode cX6_outIn 13 = .ok (.iconst 1, 1) := dk_4 (dk_at dksX6_outIn_0 13 rfl rfl)
theorem dX6_outIn_14 : decode cX6_outIn 14 = .ok (.invokevirtual 78, 3) := dk_182 0 78 (dk_at dksX6_outIn_0 14 rfl rfl)
theorem dX6_outIn_17 : decode cX6_outIn 17 = .ok (.ireturn, 1) := dk_172 (dk_at dksX6_outIn_0 17 rfl rfl)
theorem dX6_outIn_18 : decode cX6_outIn 18 = .ok (.aload_n 0, 1) := dk_42 (dk_at dksX6_outIn_0 18 rfl rfl)
theorem dX6_outIn_19 : decode cX6_outIn 19 = .ok (.sipush 2496, 3) := dk_17 9 192 (dk_at dksX6_outIn_0 19 rfl rfl)
theorem dX6_outIn_22 : decode cX6_outIn 22 = .ok (.invokevirtual 365, 3) := dk_182 1 109 (dk_at dksX6_outIn_1 0 rfl rfl)
theorem dX6_outIn_25 : decode cX6_outIn 25 = .ok (.aload_n 0, 1) := dk_42 (dk_at dksX6_outIn_1 3 rfl rfl)
theorem dX6_outIn_26 : decode cX6_outIn 26 = .ok (.iload_n 1, 1) := dk_27 (dk_at dksX6_outIn_1 4 rfl rfl)
theorem dX6_outIn_27 : decode cX6_outIn 27 = .ok (.invokevirtual 368, 3) := dk_182 1 112 (dk_at dksX6_outIn_1 5 rfl rfl)
theorem dX6_outIn_30 : decode cX6_outIn 30 = .ok (.aload_n 0, 1) := dk_42 (dk_at dksX6_outIn_1 8 rfl rfl)
theorem dX6_outIn_31 : decode cX6_outIn 31 = .ok (.getfield 7, 3) := dk_180 0 7 (dk_at dksX6_outIn_1 9 rfl rfl)
theorem dX6_outIn_34 : decode cX6_outIn 34 = .ok (.bipush 7, 2) := dk_16 7 (dk_at dksX6_outIn_1 12 rfl rfl)
theorem dX6_outIn_36 : decode cX6_outIn 36 = .ok (.iaload, 1) := dk_46 (dk_at dksX6_outIn_1 14 rfl rfl)
theorem dX6_outIn_37 : decode cX6_outIn 37 = .ok (.istore_n 2, 1) := dk_61 (dk_at dksX6_outIn_1 15 rfl rfl)
theorem dX6_outIn_38 : decode cX6_outIn 38 = .ok (.aload_n 0, 1) := dk_42 (dk_at dksX6_outIn_1 16 rfl rfl)
theorem dX6_outIn_39 : decode cX6_outIn 39 = .ok (.sipush 2496, 3) := dk_17 9 192 (dk_at dksX6_outIn_1 17 rfl rfl)
theorem dX6_outIn_42 : decode cX6_outIn 42 = .ok (.invokevirtual 371, 3) := dk_182 1 115 (dk_at dksX6_outIn_1 20 rfl rfl)
theorem dX6_outIn_45 : decode cX6_outIn 45 = .ok (.aload_n 0, 1) := dk_42 (dk_at dksX6_outIn_1 23 rfl rfl)
theorem dX6_outIn_46 : decode cX6_outIn 46 = .ok (.iload_n 2, 1) := dk_28 (dk_at dksX6_outIn_2 0 rfl rfl)
theorem dX6_outIn_47 : decode cX6_outIn 47 = .ok (.invokevirtual 82, 3) := dk_182 0 82 (dk_at dksX6_outIn_2 1 rfl rfl)
theorem dX6_outIn_50 : decode cX6_outIn 50 = .ok (.ireturn, 1) := dk_172 (dk_at dksX6_outIn_2 4 rfl rfl)
abbrev cX6_keeps : ByteArray := prog_15_method_112_code
def yX6_keeps : MethodName := ⟨RX6, "keeps", "(I)V"⟩
def dkwX6_keeps_1 : List UInt8 := [132, 2, 1, 167, 255, 233, 177]
abbrev dktX6_keeps_1 : List UInt8 := dkwX6_keeps_1 ++ []
def dkwX6_keeps_0 : List UInt8 := [3, 61, 28, 16, 48, 162, 0, 23, 42, 180, 0, 7, 27, 28, 96, 42, 180, 0, 7, 28, 46, 79]
abbrev dktX6_keeps_0 : List UInt8 := dkwX6_keeps_0 ++ dktX6_keeps_1
theorem dksX6_keeps_0 : cX6_keeps.data.toList.drop 0 = dktX6_keeps_0 := by decide +kernel
theorem dksX6_keeps_1 : cX6_keeps.data.toList.drop 22 = dktX6_keeps_1 := dk_seg dksX6_keeps_0 22 rfl rfl
theorem dX6_keeps_0 : decode cX6_keeps 0 = .ok (.iconst 0, 1) := dk_3 (dk_at dksX6_keeps_0 0 rfl rfl)
theorem dX6_keeps_1 : decode cX6_keeps 1 = .ok (.istore_n 2, 1) := dk_61 (dk_at dksX6_keeps_0 1 rfl rfl)
theorem dX6_keeps_2 : decode cX6_keeps 2 = .ok (.iload_n 2, 1) := dk_28 (dk_at dksX6_keeps_0 2 rfl rfl)
theorem dX6_keeps_3 : decode cX6_keeps 3 = .ok (.bipush 48, 2) := dk_16 48 (dk_at dksX6_keeps_0 3 rfl rfl)
theorem dX6_keeps_5 : decode cX6_keeps 5 = .ok (.if_icmp .ge 23, 3) := dk_162 0 23 (dk_at dksX6_keeps_0 5 rfl rfl)
theorem dX6_keeps_8 : decode cX6_keeps 8 = .ok (.aload_n 0, 1) := dk_42 (dk_at dksX6_keeps_0 8 rfl rfl)
theorem dX6_keeps_9 : decode cX6_keeps 9 = .ok (.getfield 7, 3) := dk_180 0 7 (dk_at dksX6_keeps_0 9 rfl rfl)
theorem dX6_keeps_12 : decode cX6_keeps 12 = .ok (.iload_n 1, 1) := dk_27 (dk_at dksX6_keeps_0 12 rfl rfl)
theorem dX6_keeps_13 : decode cX6_keeps 13 = .ok (.iload_n 2, 1) := dk_28 (dk_at dksX6_keeps_0 13 rfl rfl)
theorem dX6_keeps_14 : decode cX6_keeps 14 = .ok (.iadd, 1) := dk_96 (dk_at dksX6_keeps_0 14 rfl rfl)
theorem dX6_keeps_15 : decode cX6_keeps 15 = .ok (.aload_n 0, 1) := dk_42 (dk_at dksX6_keeps_0 15 rfl rfl)
theorem dX6_keeps_16 : decode cX6_keeps 16 = .ok (.getfield 7, 3) := dk_180 0 7 (dk_at dksX6_keeps_0 16 rfl rfl)
theorem dX6_keeps_19 : decode cX6_keeps 19 = .ok (.iload_n 2, 1) := dk_28 (dk_at dksX6_keeps_0 19 rfl rfl)
theorem dX6_keeps_20 : decode cX6_keeps 20 = .ok (.iaload, 1) := dk_46 (dk_at dksX6_keeps_0 20 rfl rfl)
theorem dX6_keeps_21 : decode cX6_keeps 21 = .ok (.iastore, 1) := dk_79 (dk_at dksX6_keeps_0 21 rfl rfl)
theorem dX6_keeps_22 : decode cX6_keeps 22 = .ok (.iinc 2 1, 3) := dk_132 2 1 (dk_at dksX6_keeps_1 0 rfl rfl)
theorem dX6_keeps_25 : decode cX6_keeps 25 = .ok (.goto (-23), 3) := dk_167 255 233 (dk_at dksX6_keeps_1 3 rfl rfl)
theorem dX6_keeps_28 : decode cX6_keeps 28 = .ok (.return_, 1) := dk_177 (dk_at dksX6_keeps_1 6 rfl rfl)
abbrev cX6_callsGo : ByteArray := prog_15_method_114_code
def yX6_callsGo : MethodName := ⟨RX6, "callsGo", "(I)V"⟩
def dkwX6_callsGo_0 : List UInt8 := [3, 61, 28, 27, 162, 0, 14, 42, 182, 1, 59, 87, 132, 2, 1, 167, 255, 243, 177]
abbrev dktX6_callsGo_0 : List UInt8 := dkwX6_callsGo_0 ++ []
theorem dksX6_callsGo_0 : cX6_callsGo.data.toList.drop 0 = dktX6_callsGo_0 := by decide +kernel
theorem dX6_callsGo_0 : decode cX6_callsGo 0 = .ok (.iconst 0, 1) := dk_3 (dk_at dksX6_callsGo_0 0 rfl rfl)
theorem dX6_callsGo_1 : decode cX6_callsGo 1 = .ok (.istore_n 2, 1) := dk_61 (dk_at dksX6_callsGo_0 1 rfl rfl)
theorem dX6_callsGo_2 : decode cX6_callsGo 2 = .ok (.iload_n 2, 1) := dk_28 (dk_at dksX6_callsGo_0 2 rfl rfl)
theorem dX6_callsGo_3 : decode cX6_callsGo 3 = .ok (.iload_n 1, 1) := dk_27 (dk_at dksX6_callsGo_0 3 rfl rfl)
theorem dX6_callsGo_4 : decode cX6_callsGo 4 = .ok (.if_icmp .ge 14, 3) := dk_162 0 14 (dk_at dksX6_callsGo_0 4 rfl rfl)
theorem dX6_callsGo_7 : decode cX6_callsGo 7 = .ok (.aload_n 0, 1) := dk_42 (dk_at dksX6_callsGo_0 7 rfl rfl)
theorem dX6_callsGo_8 : decode cX6_callsGo 8 = .ok (.invokevirtual 315, 3) := dk_182 1 59 (dk_at dksX6_callsGo_0 8 rfl rfl)
theorem dX6_callsGo_11 : decode cX6_callsGo 11 = .ok (.pop, 1) := dk_87 (dk_at dksX6_callsGo_0 11 rfl rfl)
theorem dX6_callsGo_12 : decode cX6_callsGo 12 = .ok (.iinc 2 1, 3) := dk_132 2 1 (dk_at dksX6_callsGo_0 12 rfl rfl)
theorem dX6_callsGo_15 : decode cX6_callsGo 15 = .ok (.goto (-13), 3) := dk_167 255 243 (dk_at dksX6_callsGo_0 15 rfl rfl)
theorem dX6_callsGo_18 : decode cX6_callsGo 18 = .ok (.return_, 1) := dk_177 (dk_at dksX6_callsGo_0 18 rfl rfl)
abbrev cX6_restores : ByteArray := prog_15_method_113_code
def yX6_restores : MethodName := ⟨RX6, "restores", "(I)V"⟩
def dkwX6_restores_1 : List UInt8 := [132, 2, 1, 167, 255, 233, 177]
abbrev dktX6_restores_1 : List UInt8 := dkwX6_restores_1 ++ []
def dkwX6_restores_0 : List UInt8 := [3, 61, 28, 16, 48, 162, 0, 23, 42, 180, 0, 7, 28, 42, 180, 0, 7, 27, 28, 96, 46, 79]
abbrev dktX6_restores_0 : List UInt8 := dkwX6_restores_0 ++ dktX6_restores_1
theorem dksX6_restores_0 : cX6_restores.data.toList.drop 0 = dktX6_restores_0 := by decide +kernel
theorem dksX6_restores_1 : cX6_restores.data.toList.drop 22 = dktX6_restores_1 := dk_seg dksX6_restores_0 22 rfl rfl
theorem dX6_restores_0 : decode cX6_restores 0 = .ok (.iconst 0, 1) := dk_3 (dk_at dksX6_restores_0 0 rfl rfl)
theorem dX6_restores_1 : decode cX6_restores 1 = .ok (.istore_n 2, 1) := dk_61 (dk_at dksX6_restores_0 1 rfl rfl)
theorem dX6_restores_2 : decode cX6_restores 2 = .ok (.iload_n 2, 1) := dk_28 (dk_at dksX6_restores_0 2 rfl rfl)
theorem dX6_restores_3 : decode cX6_restores 3 = .ok (.bipush 48, 2) := dk_16 48 (dk_at dksX6_restores_0 3 rfl rfl)
theorem dX6_restores_5 : decode cX6_restores 5 = .ok (.if_icmp .ge 23, 3) := dk_162 0 23 (dk_at dksX6_restores_0 5 rfl rfl)
theorem dX6_restores_8 : decode cX6_restores 8 = .ok (.aload_n 0, 1) := dk_42 (dk_at dksX6_restores_0 8 rfl rfl)
theorem dX6_restores_9 : decode cX6_restores 9 = .ok (.getfield 7, 3) := dk_180 0 7 (dk_at dksX6_restores_0 9 rfl rfl)
theorem dX6_restores_12 : decode cX6_restores 12 = .ok (.iload_n 2, 1) := dk_28 (dk_at dksX6_restores_0 12 rfl rfl)
theorem dX6_restores_13 : decode cX6_restores 13 = .ok (.aload_n 0, 1) := dk_42 (dk_at dksX6_restores_0 13 rfl rfl)
theorem dX6_restores_14 : decode cX6_restores 14 = .ok (.getfield 7, 3) := dk_180 0 7 (dk_at dksX6_restores_0 14 rfl rfl)
theorem dX6_restores_17 : decode cX6_restores 17 = .ok (.iload_n 1, 1) := dk_27 (dk_at dksX6_restores_0 17 rfl rfl)
theorem dX6_restores_18 : decode cX6_restores 18 = .ok (.iload_n 2, 1) := dk_28 (dk_at dksX6_restores_0 18 rfl rfl)
theorem dX6_restores_19 : decode cX6_restores 19 = .ok (.iadd, 1) := dk_96 (dk_at dksX6_restores_0 19 rfl rfl)
theorem dX6_restores_20 : decode cX6_restores 20 = .ok (.iaload, 1) := dk_46 (dk_at dksX6_restores_0 20 rfl rfl)
theorem dX6_restores_21 : decode cX6_restores 21 = .ok (.iastore, 1) := dk_79 (dk_at dksX6_restores_0 21 rfl rfl)
theorem dX6_restores_22 : decode cX6_restores 22 = .ok (.iinc 2 1, 3) := dk_132 2 1 (dk_at dksX6_restores_1 0 rfl rfl)
theorem dX6_restores_25 : decode cX6_restores 25 = .ok (.goto (-23), 3) := dk_167 255 233 (dk_at dksX6_restores_1 3 rfl rfl)
theorem dX6_restores_28 : decode cX6_restores 28 = .ok (.return_, 1) := dk_177 (dk_at dksX6_restores_1 6 rfl rfl)
abbrev cX6_outAt : ByteArray := prog_15_method_116_code
def yX6_outAt : MethodName := ⟨RX6, "outAt", "(I)I"⟩
def dkwX6_outAt_4 : List UInt8 := [172]
abbrev dktX6_outAt_4 : List UInt8 := dkwX6_outAt_4 ++ []
def dkwX6_outAt_3 : List UInt8 := [17, 9, 192, 182, 1, 115, 29, 153, 0, 11, 42, 28, 182, 0, 82, 167, 0, 9, 42, 16, 6, 182, 0, 78]
abbrev dktX6_outAt_3 : List UInt8 := dkwX6_outAt_3 ++ dktX6_outAt_4
def dkwX6_outAt_2 : List UInt8 := [182, 1, 40, 154, 0, 14, 42, 182, 1, 59, 87, 132, 2, 1, 167, 255, 234, 42, 27, 182, 1, 40, 62, 42]
abbrev dktX6_outAt_2 : List UInt8 := dkwX6_outAt_2 ++ dktX6_outAt_3
def dkwX6_outAt_1 : List UInt8 := [16, 7, 182, 0, 78, 172, 42, 17, 9, 192, 182, 1, 109, 3, 61, 28, 16, 60, 162, 0, 22, 42, 27]
abbrev dktX6_outAt_1 : List UInt8 := dkwX6_outAt_1 ++ dktX6_outAt_2
def dkwX6_outAt_0 : List UInt8 := [42, 27, 182, 1, 34, 154, 0, 9, 42, 4, 182, 0, 78, 172, 42, 27, 182, 1, 40, 153, 0, 10, 42]
abbrev dktX6_outAt_0 : List UInt8 := dkwX6_outAt_0 ++ dktX6_outAt_1
theorem dksX6_outAt_0 : cX6_outAt.data.toList.drop 0 = dktX6_outAt_0 := by decide +kernel
theorem dksX6_outAt_1 : cX6_outAt.data.toList.drop 23 = dktX6_outAt_1 := dk_seg dksX6_outAt_0 23 rfl rfl
theorem dksX6_outAt_2 : cX6_outAt.data.toList.drop 46 = dktX6_outAt_2 := dk_seg dksX6_outAt_1 23 rfl rfl
theorem dksX6_outAt_3 : cX6_outAt.data.toList.drop 70 = dktX6_outAt_3 := dk_seg dksX6_outAt_2 24 rfl rfl
theorem dksX6_outAt_4 : cX6_outAt.data.toList.drop 94 = dktX6_outAt_4 := dk_seg dksX6_outAt_3 24 rfl rfl
theorem dX6_outAt_0 : decode cX6_outAt 0 = .ok (.aload_n 0, 1) := dk_42 (dk_at dksX6_outAt_0 0 rfl rfl)
theorem dX6_outAt_1 : decode cX6_outAt 1 = .ok (.iload_n 1, 1) := dk_27 (dk_at dksX6_outAt_0 1 rfl rfl)
theorem dX6_outAt_2 : decode cX6_outAt 2 = .ok (.invokevirtual 290, 3) := dk_182 1 34 (dk_at dksX6_outAt_0 2 rfl rfl)
theorem dX6_outAt_5 : decode cX6_outAt 5 = .ok (.ifCond .ne 9, 3) := dk_154 0 9 (dk_at dksX6_outAt_0 5 rfl rfl)
theorem dX6_outAt_8 : decode cX6_outAt 8 = .ok (.aload_n 0, 1) := dk_42 (dk_at dksX6_outAt_0 8 rfl rfl)
theorem dX6_outAt_9 : decode cX6_outAt 9 = .ok (.iconst 1, 1) := dk_4 (dk_at dksX6_outAt_0 9 rfl rfl)
theorem dX6_outAt_10 : decode cX6_outAt 10 = .ok (.invokevirtual 78, 3) := dk_182 0 78 (dk_at dksX6_outAt_0 10 rfl rfl)
theorem dX6_outAt_13 : decode cX6_outAt 13 = .ok (.ireturn, 1) := dk_172 (dk_at dksX6_outAt_0 13 rfl rfl)
theorem dX6_outAt_14 : decode cX6_outAt 14 = .ok (.aload_n 0, 1) := dk_42 (dk_at dksX6_outAt_0 14 rfl rfl)
theorem dX6_outAt_15 : decode cX6_outAt 15 = .ok (.iload_n 1, 1) := dk_27 (dk_at dksX6_outAt_0 15 rfl rfl)
theorem dX6_outAt_16 : decode cX6_outAt 16 = .ok (.invokevirtual 296, 3) := dk_182 1 40 (dk_at dksX6_outAt_0 16 rfl rfl)
theorem dX6_outAt_19 : decode cX6_outAt 19 = .ok (.ifCond .eq 10, 3) := dk_153 0 10 (dk_at dksX6_outAt_0 19 rfl rfl)
theorem dX6_outAt_22 : decode cX6_outAt 22 = .ok (.aload_n 0, 1) := dk_42 (dk_at dksX6_outAt_0 22 rfl rfl)
theorem dX6_outAt_23 : decode cX6_outAt 23 = .ok (.bipush 7, 2) := dk_16 7 (dk_at dksX6_outAt_1 0 rfl rfl)
theorem dX6_outAt_25 : decode cX6_outAt 25 = .ok (.invokevirtual 78, 3) := dk_182 0 78 (dk_at dksX6_outAt_1 2 rfl rfl)
theorem dX6_outAt_28 : decode cX6_outAt 28 = .ok (.ireturn, 1) := dk_172 (dk_at dksX6_outAt_1 5 rfl rfl)
theorem dX6_outAt_29 : decode cX6_outAt 29 = .ok (.aload_n 0, 1) := dk_42 (dk_at dksX6_outAt_1 6 rfl rfl)
theorem dX6_outAt_30 : decode cX6_outAt 30 = .ok (.sipush 2496, 3) := dk_17 9 192 (dk_at dksX6_outAt_1 7 rfl rfl)
theorem dX6_outAt_33 : decode cX6_outAt 33 = .ok (.invokevirtual 365, 3) := dk_182 1 109 (dk_at dksX6_outAt_1 10 rfl rfl)
theorem dX6_outAt_36 : decode cX6_outAt 36 = .ok (.iconst 0, 1) := dk_3 (dk_at dksX6_outAt_1 13 rfl rfl)
theorem dX6_outAt_37 : decode cX6_outAt 37 = .ok (.istore_n 2, 1) := dk_61 (dk_at dksX6_outAt_1 14 rfl rfl)
theorem dX6_outAt_38 : decode cX6_outAt 38 = .ok (.iload_n 2, 1) := dk_28 (dk_at dksX6_outAt_1 15 rfl rfl)
theorem dX6_outAt_39 : decode cX6_outAt 39 = .ok (.bipush 60, 2) := dk_16 60 (dk_at dksX6_outAt_1 16 rfl rfl)
theorem dX6_outAt_41 : decode cX6_outAt 41 = .ok (.if_icmp .ge 22, 3) := dk_162 0 22 (dk_at dksX6_outAt_1 18 rfl rfl)
theorem dX6_outAt_44 : decode cX6_outAt 44 = .ok (.aload_n 0, 1) := dk_42 (dk_at dksX6_outAt_1 21 rfl rfl)
theorem dX6_outAt_45 : decode cX6_outAt 45 = .ok (.iload_n 1, 1) := dk_27 (dk_at dksX6_outAt_1 22 rfl rfl)
theorem dX6_outAt_46 : decode cX6_outAt 46 = .ok (.invokevirtual 296, 3) := dk_182 1 40 (dk_at dksX6_outAt_2 0 rfl rfl)
theorem dX6_outAt_49 : decode cX6_outAt 49 = .ok (.ifCond .ne 14, 3) := dk_154 0 14 (dk_at dksX6_outAt_2 3 rfl rfl)
theorem dX6_outAt_52 : decode cX6_outAt 52 = .ok (.aload_n 0, 1) := dk_42 (dk_at dksX6_outAt_2 6 rfl rfl)
theorem dX6_outAt_53 : decode cX6_outAt 53 = .ok (.invokevirtual 315, 3) := dk_182 1 59 (dk_at dksX6_outAt_2 7 rfl rfl)
theorem dX6_outAt_56 : decode cX6_outAt 56 = .ok (.pop, 1) := dk_87 (dk_at dksX6_outAt_2 10 rfl rfl)
theorem dX6_outAt_57 : decode cX6_outAt 57 = .ok (.iinc 2 1, 3) := dk_132 2 1 (dk_at dksX6_outAt_2 11 rfl rfl)
theorem dX6_outAt_60 : decode cX6_outAt 60 = .ok (.goto (-22), 3) := dk_167 255 234 (dk_at dksX6_outAt_2 14 rfl rfl)
theorem dX6_outAt_63 : decode cX6_outAt 63 = .ok (.aload_n 0, 1) := dk_42 (dk_at dksX6_outAt_2 17 rfl rfl)
theorem dX6_outAt_64 : decode cX6_outAt 64 = .ok (.iload_n 1, 1) := dk_27 (dk_at dksX6_outAt_2 18 rfl rfl)
theorem dX6_outAt_65 : decode cX6_outAt 65 = .ok (.invokevirtual 296, 3) := dk_182 1 40 (dk_at dksX6_outAt_2 19 rfl rfl)
theorem dX6_outAt_68 : decode cX6_outAt 68 = .ok (.istore_n 3, 1) := dk_62 (dk_at dksX6_outAt_2 22 rfl rfl)
theorem dX6_outAt_69 : decode cX6_outAt 69 = .ok (.aload_n 0, 1) := dk_42 (dk_at dksX6_outAt_2 23 rfl rfl)
theorem dX6_outAt_70 : decode cX6_outAt 70 = .ok (.sipush 2496, 3) := dk_17 9 192 (dk_at dksX6_outAt_3 0 rfl rfl)
theorem dX6_outAt_73 : decode cX6_outAt 73 = .ok (.invokevirtual 371, 3) := dk_182 1 115 (dk_at dksX6_outAt_3 3 rfl rfl)
theorem dX6_outAt_76 : decode cX6_outAt 76 = .ok (.iload_n 3, 1) := dk_29 (dk_at dksX6_outAt_3 6 rfl rfl)
theorem dX6_outAt_77 : decode cX6_outAt 77 = .ok (.ifCond .eq 11, 3) := dk_153 0 11 (dk_at dksX6_outAt_3 7 rfl rfl)
theorem dX6_outAt_80 : decode cX6_outAt 80 = .ok (.aload_n 0, 1) := dk_42 (dk_at dksX6_outAt_3 10 rfl rfl)
theorem dX6_outAt_81 : decode cX6_outAt 81 = .ok (.iload_n 2, 1) := dk_28 (dk_at dksX6_outAt_3 11 rfl rfl)
theorem dX6_outAt_82 : decode cX6_outAt 82 = .ok (.invokevirtual 82, 3) := dk_182 0 82 (dk_at dksX6_outAt_3 12 rfl rfl)
theorem dX6_outAt_85 : decode cX6_outAt 85 = .ok (.goto 9, 3) := dk_167 0 9 (dk_at dksX6_outAt_3 15 rfl rfl)
theorem dX6_outAt_88 : decode cX6_outAt 88 = .ok (.aload_n 0, 1) := dk_42 (dk_at dksX6_outAt_3 18 rfl rfl)
theorem dX6_outAt_89 : decode cX6_outAt 89 = .ok (.bipush 6, 2) := dk_16 6 (dk_at dksX6_outAt_3 19 rfl rfl)
theorem dX6_outAt_91 : decode cX6_outAt 91 = .ok (.invokevirtual 78, 3) := dk_182 0 78 (dk_at dksX6_outAt_3 21 rfl rfl)
theorem dX6_outAt_94 : decode cX6_outAt 94 = .ok (.ireturn, 1) := dk_172 (dk_at dksX6_outAt_4 0 rfl rfl)
abbrev cX6_holdIn : ByteArray := prog_15_method_117_code
def yX6_holdIn : MethodName := ⟨RX6, "holdIn", "(II)I"⟩
def dkwX6_holdIn_2 : List UInt8 := [17, 9, 192, 182, 1, 115, 42, 29, 182, 0, 82, 172]
abbrev dktX6_holdIn_2 : List UInt8 := dkwX6_holdIn_2 ++ []
def dkwX6_holdIn_1 : List UInt8 := [182, 0, 78, 172, 42, 17, 9, 192, 182, 1, 109, 42, 28, 182, 1, 112, 42, 27, 3, 182, 1, 10, 62, 42]
abbrev dktX6_holdIn_1 : List UInt8 := dkwX6_holdIn_1 ++ dktX6_holdIn_2
def dkwX6_holdIn_0 : List UInt8 := [42, 27, 182, 1, 34, 153, 0, 15, 28, 133, 9, 20, 1, 107, 184, 1, 0, 154, 0, 9, 42, 4]
abbrev dktX6_holdIn_0 : List UInt8 := dkwX6_holdIn_0 ++ dktX6_holdIn_1
theorem dksX6_holdIn_0 : cX6_holdIn.data.toList.drop 0 = dktX6_holdIn_0 := by decide +kernel
theorem dksX6_holdIn_1 : cX6_holdIn.data.toList.drop 22 = dktX6_holdIn_1 := dk_seg dksX6_holdIn_0 22 rfl rfl
theorem dksX6_holdIn_2 : cX6_holdIn.data.toList.drop 46 = dktX6_holdIn_2 := dk_seg dksX6_holdIn_1 24 rfl rfl
theorem dX6_holdIn_0 : decode cX6_holdIn 0 = .ok (.aload_n 0, 1) := dk_42 (dk_at dksX6_holdIn_0 0 rfl rfl)
theorem dX6_holdIn_1 : decode cX6_holdIn 1 = .ok (.iload_n 1, 1) := dk_27 (dk_at dksX6_holdIn_0 1 rfl rfl)
theorem dX6_holdIn_2 : decode cX6_holdIn 2 = .ok (.invokevirtual 290, 3) := dk_182 1 34 (dk_at dksX6_holdIn_0 2 rfl rfl)
theorem dX6_holdIn_5 : decode cX6_holdIn 5 = .ok (.ifCond .eq 15, 3) := dk_153 0 15 (dk_at dksX6_holdIn_0 5 rfl rfl)
theorem dX6_holdIn_8 : decode cX6_holdIn 8 = .ok (.iload_n 2, 1) := dk_28 (dk_at dksX6_holdIn_0 8 rfl rfl)
theorem dX6_holdIn_9 : decode cX6_holdIn 9 = .ok (.i2l, 1) := dk_133 (dk_at dksX6_holdIn_0 9 rfl rfl)
theorem dX6_holdIn_10 : decode cX6_holdIn 10 = .ok (.lconst 0, 1) := dk_9 (dk_at dksX6_holdIn_0 10 rfl rfl)
theorem dX6_holdIn_11 : decode cX6_holdIn 11 = .ok (.ldc2_w 363, 3) := dk_20 1 107 (dk_at dksX6_holdIn_0 11 rfl rfl)
theorem dX6_holdIn_14 : decode cX6_holdIn 14 = .ok (.invokestatic 256, 3) := dk_184 1 0 (dk_at dksX6_holdIn_0 14 rfl rfl)
theorem dX6_holdIn_17 : decode cX6_holdIn 17 = .ok (.ifCond .ne 9, 3) := dk_154 0 9 (dk_at dksX6_holdIn_0 17 rfl rfl)
theorem dX6_holdIn_20 : decode cX6_holdIn 20 = .ok (.aload_n 0, 1) := dk_42 (dk_at dksX6_holdIn_0 20 rfl rfl)
theorem dX6_holdIn_21 : decode cX6_holdIn 21 = .ok (.iconst 1, 1) := dk_4 (dk_at dksX6_holdIn_0 21 rfl rfl)
theorem dX6_holdIn_22 : decode cX6_holdIn 22 = .ok (.invokevirtual 78, 3) := dk_182 0 78 (dk_at dksX6_holdIn_1 0 rfl rfl)
theorem dX6_holdIn_25 : decode cX6_holdIn 25 = .ok (.ireturn, 1) := dk_172 (dk_at dksX6_holdIn_1 3 rfl rfl)
theorem dX6_holdIn_26 : decode cX6_holdIn 26 = .ok (.aload_n 0, 1) := dk_42 (dk_at dksX6_holdIn_1 4 rfl rfl)
theorem dX6_holdIn_27 : decode cX6_holdIn 27 = .ok (.sipush 2496, 3) := dk_17 9 192 (dk_at dksX6_holdIn_1 5 rfl rfl)
theorem dX6_holdIn_30 : decode cX6_holdIn 30 = .ok (.invokevirtual 365, 3) := dk_182 1 109 (dk_at dksX6_holdIn_1 8 rfl rfl)
theorem dX6_holdIn_33 : decode cX6_holdIn 33 = .ok (.aload_n 0, 1) := dk_42 (dk_at dksX6_holdIn_1 11 rfl rfl)
theorem dX6_holdIn_34 : decode cX6_holdIn 34 = .ok (.iload_n 2, 1) := dk_28 (dk_at dksX6_holdIn_1 12 rfl rfl)
theorem dX6_holdIn_35 : decode cX6_holdIn 35 = .ok (.invokevirtual 368, 3) := dk_182 1 112 (dk_at dksX6_holdIn_1 13 rfl rfl)
theorem dX6_holdIn_38 : decode cX6_holdIn 38 = .ok (.aload_n 0, 1) := dk_42 (dk_at dksX6_holdIn_1 16 rfl rfl)
theorem dX6_holdIn_39 : decode cX6_holdIn 39 = .ok (.iload_n 1, 1) := dk_27 (dk_at dksX6_holdIn_1 17 rfl rfl)
theorem dX6_holdIn_40 : decode cX6_holdIn 40 = .ok (.iconst 0, 1) := dk_3 (dk_at dksX6_holdIn_1 18 rfl rfl)
theorem dX6_holdIn_41 : decode cX6_holdIn 41 = .ok (.invokevirtual 266, 3) := dk_182 1 10 (dk_at dksX6_holdIn_1 19 rfl rfl)
theorem dX6_holdIn_44 : decode cX6_holdIn 44 = .ok (.istore_n 3, 1) := dk_62 (dk_at dksX6_holdIn_1 22 rfl rfl)
theorem dX6_holdIn_45 : decode cX6_holdIn 45 = .ok (.aload_n 0, 1) := dk_42 (dk_at dksX6_holdIn_1 23 rfl rfl)
theorem dX6_holdIn_46 : decode cX6_holdIn 46 = .ok (.sipush 2496, 3) := dk_17 9 192 (dk_at dksX6_holdIn_2 0 rfl rfl)
theorem dX6_holdIn_49 : decode cX6_holdIn 49 = .ok (.invokevirtual 371, 3) := dk_182 1 115 (dk_at dksX6_holdIn_2 3 rfl rfl)
theorem dX6_holdIn_52 : decode cX6_holdIn 52 = .ok (.aload_n 0, 1) := dk_42 (dk_at dksX6_holdIn_2 6 rfl rfl)
theorem dX6_holdIn_53 : decode cX6_holdIn 53 = .ok (.iload_n 3, 1) := dk_29 (dk_at dksX6_holdIn_2 7 rfl rfl)
theorem dX6_holdIn_54 : decode cX6_holdIn 54 = .ok (.invokevirtual 82, 3) := dk_182 0 82 (dk_at dksX6_holdIn_2 8 rfl rfl)
theorem dX6_holdIn_57 : decode cX6_holdIn 57 = .ok (.ireturn, 1) := dk_172 (dk_at dksX6_holdIn_2 11 rfl rfl)
abbrev cX6_fits : ByteArray := prog_15_method_121_code
def yX6_fits : MethodName := ⟨RX6, "fits", "(III)I"⟩
def dkwX6_fits_1 : List UInt8 := [42, 27, 28, 29, 182, 1, 128, 184, 1, 49, 182, 0, 82, 172]
abbrev dktX6_fits_1 : List UInt8 := dkwX6_fits_1 ++ []
def dkwX6_fits_0 : List UInt8 := [42, 27, 28, 29, 182, 1, 124, 54, 4, 21, 4, 158, 0, 12, 42, 21, 4, 182, 0, 78, 167, 0, 17, 42]
abbrev dktX6_fits_0 : List UInt8 := dkwX6_fits_0 ++ dktX6_fits_1
theorem dksX6_fits_0 : cX6_fits.data.toList.drop 0 = dktX6_fits_0 := by decide +kernel
theorem dksX6_fits_1 : cX6_fits.data.toList.drop 24 = dktX6_fits_1 := dk_seg dksX6_fits_0 24 rfl rfl
theorem dX6_fits_0 : decode cX6_fits 0 = .ok (.aload_n 0, 1) := dk_42 (dk_at dksX6_fits_0 0 rfl rfl)
theorem dX6_fits_1 : decode cX6_fits 1 = .ok (.iload_n 1, 1) := dk_27 (dk_at dksX6_fits_0 1 rfl rfl)
theorem dX6_fits_2 : decode cX6_fits 2 = .ok (.iload_n 2, 1) := dk_28 (dk_at dksX6_fits_0 2 rfl rfl)
theorem dX6_fits_3 : decode cX6_fits 3 = .ok (.iload_n 3, 1) := dk_29 (dk_at dksX6_fits_0 3 rfl rfl)
theorem dX6_fits_4 : decode cX6_fits 4 = .ok (.invokevirtual 380, 3) := dk_182 1 124 (dk_at dksX6_fits_0 4 rfl rfl)
theorem dX6_fits_7 : decode cX6_fits 7 = .ok (.istore 4, 2) := dk_54 4 (dk_at dksX6_fits_0 7 rfl rfl)
theorem dX6_fits_9 : decode cX6_fits 9 = .ok (.iload 4, 2) := dk_21 4 (dk_at dksX6_fits_0 9 rfl rfl)
theorem dX6_fits_11 : decode cX6_fits 11 = .ok (.ifCond .le 12, 3) := dk_158 0 12 (dk_at dksX6_fits_0 11 rfl rfl)
theorem dX6_fits_14 : decode cX6_fits 14 = .ok (.aload_n 0, 1) := dk_42 (dk_at dksX6_fits_0 14 rfl rfl)
theorem dX6_fits_15 : decode cX6_fits 15 = .ok (.iload 4, 2) := dk_21 4 (dk_at dksX6_fits_0 15 rfl rfl)
theorem dX6_fits_17 : decode cX6_fits 17 = .ok (.invokevirtual 78, 3) := dk_182 0 78 (dk_at dksX6_fits_0 17 rfl rfl)
theorem dX6_fits_20 : decode cX6_fits 20 = .ok (.goto 17, 3) := dk_167 0 17 (dk_at dksX6_fits_0 20 rfl rfl)
theorem dX6_fits_23 : decode cX6_fits 23 = .ok (.aload_n 0, 1) := dk_42 (dk_at dksX6_fits_0 23 rfl rfl)
theorem dX6_fits_24 : decode cX6_fits 24 = .ok (.aload_n 0, 1) := dk_42 (dk_at dksX6_fits_1 0 rfl rfl)
theorem dX6_fits_25 : decode cX6_fits 25 = .ok (.iload_n 1, 1) := dk_27 (dk_at dksX6_fits_1 1 rfl rfl)
theorem dX6_fits_26 : decode cX6_fits 26 = .ok (.iload_n 2, 1) := dk_28 (dk_at dksX6_fits_1 2 rfl rfl)
theorem dX6_fits_27 : decode cX6_fits 27 = .ok (.iload_n 3, 1) := dk_29 (dk_at dksX6_fits_1 3 rfl rfl)
theorem dX6_fits_28 : decode cX6_fits 28 = .ok (.invokevirtual 384, 3) := dk_182 1 128 (dk_at dksX6_fits_1 4 rfl rfl)
theorem dX6_fits_31 : decode cX6_fits 31 = .ok (.invokestatic 305, 3) := dk_184 1 49 (dk_at dksX6_fits_1 7 rfl rfl)
theorem dX6_fits_34 : decode cX6_fits 34 = .ok (.invokevirtual 82, 3) := dk_182 0 82 (dk_at dksX6_fits_1 10 rfl rfl)
theorem dX6_fits_37 : decode cX6_fits 37 = .ok (.ireturn, 1) := dk_172 (dk_at dksX6_fits_1 13 rfl rfl)
abbrev cX6_wrongFits : ByteArray := prog_15_method_118_code
def yX6_wrongFits : MethodName := ⟨RX6, "wrongFits", "(III)I"⟩
def dkwX6_wrongFits_4 : List UInt8 := [21, 4, 104, 96, 4, 96, 47, 182, 1, 86, 154, 0, 5, 8, 172, 132, 4, 1, 167, 255, 201, 3, 172]
abbrev dktX6_wrongFits_4 : List UInt8 := dkwX6_wrongFits_4 ++ []
def dkwX6_wrongFits_3 : List UInt8 := [104, 5, 21, 4, 104, 96, 47, 182, 1, 79, 153, 0, 26, 42, 42, 180, 0, 27, 16, 60, 28, 104, 5]
abbrev dktX6_wrongFits_3 : List UInt8 := dkwX6_wrongFits_3 ++ dktX6_wrongFits_4
def dkwX6_wrongFits_2 : List UInt8 := [29, 104, 162, 0, 5, 6, 172, 3, 54, 4, 21, 4, 29, 162, 0, 55, 42, 42, 180, 0, 27, 16, 60, 28]
abbrev dktX6_wrongFits_2 : List UInt8 := dkwX6_wrongFits_2 ++ dktX6_wrongFits_3
def dkwX6_wrongFits_1 : List UInt8 := [154, 0, 5, 4, 172, 42, 180, 0, 24, 28, 46, 2, 160, 0, 5, 5, 172, 42, 180, 0, 24, 28, 46, 5]
abbrev dktX6_wrongFits_1 : List UInt8 := dkwX6_wrongFits_1 ++ dktX6_wrongFits_2
def dkwX6_wrongFits_0 : List UInt8 := [42, 27, 182, 1, 34, 153, 0, 22, 28, 184, 0, 89, 153, 0, 15, 29, 133, 9, 20, 1, 118, 184, 1, 0]
abbrev dktX6_wrongFits_0 : List UInt8 := dkwX6_wrongFits_0 ++ dktX6_wrongFits_1
theorem dksX6_wrongFits_0 : cX6_wrongFits.data.toList.drop 0 = dktX6_wrongFits_0 := by decide +kernel
theorem dksX6_wrongFits_1 : cX6_wrongFits.data.toList.drop 24 = dktX6_wrongFits_1 := dk_seg dksX6_wrongFits_0 24 rfl rfl
theorem dksX6_wrongFits_2 : cX6_wrongFits.data.toList.drop 48 = dktX6_wrongFits_2 := dk_seg dksX6_wrongFits_1 24 rfl rfl
theorem dksX6_wrongFits_3 : cX6_wrongFits.data.toList.drop 72 = dktX6_wrongFits_3 := dk_seg dksX6_wrongFits_2 24 rfl rfl
theorem dksX6_wrongFits_4 : cX6_wrongFits.data.toList.drop 95 = dktX6_wrongFits_4 := dk_seg dksX6_wrongFits_3 23 rfl rfl
theorem dX6_wrongFits_0 : decode cX6_wrongFits 0 = .ok (.aload_n 0, 1) := dk_42 (dk_at dksX6_wrongFits_0 0 rfl rfl)
theorem dX6_wrongFits_1 : decode cX6_wrongFits 1 = .ok (.iload_n 1, 1) := dk_27 (dk_at dksX6_wrongFits_0 1 rfl rfl)
theorem dX6_wrongFits_2 : decode cX6_wrongFits 2 = .ok (.invokevirtual 290, 3) := dk_182 1 34 (dk_at dksX6_wrongFits_0 2 rfl rfl)
theorem dX6_wrongFits_5 : decode cX6_wrongFits 5 = .ok (.ifCond .eq 22, 3) := dk_153 0 22 (dk_at dksX6_wrongFits_0 5 rfl rfl)
theorem dX6_wrongFits_8 : decode cX6_wrongFits 8 = .ok (.iload_n 2, 1) := dk_28 (dk_at dksX6_wrongFits_0 8 rfl rfl)
theorem dX6_wrongFits_9 : decode cX6_wrongFits 9 = .ok (.invokestatic 89, 3) := dk_184 0 89 (dk_at dksX6_wrongFits_0 9 rfl rfl)
theorem dX6_wrongFits_12 : decode cX6_wrongFits 12 = .ok (.ifCond .eq 15, 3) := dk_153 0 15 (dk_at dksX6_wrongFits_0 12 rfl rfl)
theorem dX6_wrongFits_15 : decode cX6_wrongFits 15 = .ok (.iload_n 3, 1) := dk_29 (dk_at dksX6_wrongFits_0 15 rfl rfl)
theorem dX6_wrongFits_16 : decode cX6_wrongFits 16 = .ok (.i2l, 1) := dk_133 (dk_at dksX6_wrongFits_0 16 rfl rfl)
theorem dX6_wrongFits_17 : decode cX6_wrongFits 17 = .ok (.lconst 0, 1) := dk_9 (dk_at dksX6_wrongFits_0 17 rfl rfl)
theorem dX6_wrongFits_18 : decode cX6_wrongFits 18 = .ok (.ldc2_w 374, 3) := dk_20 1 118 (dk_at dksX6_wrongFits_0 18 rfl rfl)
theorem dX6_wrongFits_21 : decode cX6_wrongFits 21 = .ok (.invokestatic 256, 3) := dk_184 1 0 (dk_at dksX6_wrongFits_0 21 rfl rfl)
theorem dX6_wrongFits_24 : decode cX6_wrongFits 24 = .ok (.ifCond .ne 5, 3) := dk_154 0 5 (dk_at dksX6_wrongFits_1 0 rfl rfl)
theorem dX6_wrongFits_27 : decode cX6_wrongFits 27 = .ok (.iconst 1, 1) := dk_4 (dk_at dksX6_wrongFits_1 3 rfl rfl)
theorem dX6_wrongFits_28 : decode cX6_wrongFits 28 = .ok (.ireturn, 1) := dk_172 (dk_at dksX6_wrongFits_1 4 rfl rfl)
theorem dX6_wrongFits_29 : decode cX6_wrongFits 29 = .ok (.aload_n 0, 1) := dk_42 (dk_at dksX6_wrongFits_1 5 rfl rfl)
theorem dX6_wrongFits_30 : decode cX6_wrongFits 30 = .ok (.getfield 24, 3) := dk_180 0 24 (dk_at dksX6_wrongFits_1 6 rfl rfl)
theorem dX6_wrongFits_33 : decode cX6_wrongFits 33 = .ok (.iload_n 2, 1) := dk_28 (dk_at dksX6_wrongFits_1 9 rfl rfl)
theorem dX6_wrongFits_34 : decode cX6_wrongFits 34 = .ok (.iaload, 1) := dk_46 (dk_at dksX6_wrongFits_1 10 rfl rfl)
theorem dX6_wrongFits_35 : decode cX6_wrongFits 35 = .ok (.iconst (-1), 1) := dk_2 (dk_at dksX6_wrongFits_1 11 rfl rfl)
theorem dX6_wrongFits_36 : decode cX6_wrongFits 36 = .ok (.if_icmp .ne 5, 3) := dk_160 0 5 (dk_at dksX6_wrongFits_1 12 rfl rfl)
theorem dX6_wrongFits_39 : decode cX6_wrongFits 39 = .ok (.iconst 2, 1) := dk_5 (dk_at dksX6_wrongFits_1 15 rfl rfl)
theorem dX6_wrongFits_40 : decode cX6_wrongFits 40 = .ok (.ireturn, 1) := dk_172 (dk_at dksX6_wrongFits_1 16 rfl rfl)
theorem dX6_wrongFits_41 : decode cX6_wrongFits 41 = .ok (.aload_n 0, 1) := dk_42 (dk_at dksX6_wrongFits_1 17 rfl rfl)
theorem dX6_wrongFits_42 : decode cX6_wrongFits 42 = .ok (.getfield 24, 3) := dk_180 0 24 (dk_at dksX6_wrongFits_1 18 rfl rfl)
theorem dX6_wrongFits_45 : decode cX6_wrongFits 45 = .ok (.iload_n 2, 1) := dk_28 (dk_at dksX6_wrongFits_1 21 rfl rfl)
theorem dX6_wrongFits_46 : decode cX6_wrongFits 46 = .ok (.iaload, 1) := dk_46 (dk_at dksX6_wrongFits_1 22 rfl rfl)
theorem dX6_wrongFits_47 : decode cX6_wrongFits 47 = .ok (.iconst 2, 1) := dk_5 (dk_at dksX6_wrongFits_1 23 rfl rfl)
theorem dX6_wrongFits_48 : decode cX6_wrongFits 48 = .ok (.iload_n 3, 1) := dk_29 (dk_at dksX6_wrongFits_2 0 rfl rfl)
theorem dX6_wrongFits_49 : decode cX6_wrongFits 49 = .ok (.imul, 1) := dk_104 (dk_at dksX6_wrongFits_2 1 rfl rfl)
theorem dX6_wrongFits_50 : decode cX6_wrongFits 50 = .ok (.if_icmp .ge 5, 3) := dk_162 0 5 (dk_at dksX6_wrongFits_2 2 rfl rfl)
theorem dX6_wrongFits_53 : decode cX6_wrongFits 53 = .ok (.iconst 3, 1) := dk_6 (dk_at dksX6_wrongFits_2 5 rfl rfl)
theorem dX6_wrongFits_54 : decode cX6_wrongFits 54 = .ok (.ireturn, 1) := dk_172 (dk_at dksX6_wrongFits_2 6 rfl rfl)
theorem dX6_wrongFits_55 : decode cX6_wrongFits 55 = .ok (.iconst 0, 1) := dk_3 (dk_at dksX6_wrongFits_2 7 rfl rfl)
theorem dX6_wrongFits_56 : decode cX6_wrongFits 56 = .ok (.istore 4, 2) := dk_54 4 (dk_at dksX6_wrongFits_2 8 rfl rfl)
theorem dX6_wrongFits_58 : decode cX6_wrongFits 58 = .ok (.iload 4, 2) := dk_21 4 (dk_at dksX6_wrongFits_2 10 rfl rfl)
theorem dX6_wrongFits_60 : decode cX6_wrongFits 60 = .ok (.iload_n 3, 1) := dk_29 (dk_at dksX6_wrongFits_2 12 rfl rfl)
theorem dX6_wrongFits_61 : decode cX6_wrongFits 61 = .ok (.if_icmp .ge 55, 3) := dk_162 0 55 (dk_at dksX6_wrongFits_2 13 rfl rfl)
theorem dX6_wrongFits_64 : decode cX6_wrongFits 64 = .ok (.aload_n 0, 1) := dk_42 (dk_at dksX6_wrongFits_2 16 rfl rfl)
theorem dX6_wrongFits_65 : decode cX6_wrongFits 65 = .ok (.aload_n 0, 1) := dk_42 (dk_at dksX6_wrongFits_2 17 rfl rfl)
theorem dX6_wrongFits_66 : decode cX6_wrongFits 66 = .ok (.getfield 27, 3) := dk_180 0 27 (dk_at dksX6_wrongFits_2 18 rfl rfl)
theorem dX6_wrongFits_69 : decode cX6_wrongFits 69 = .ok (.bipush 60, 2) := dk_16 60 (dk_at dksX6_wrongFits_2 21 rfl rfl)
theorem dX6_wrongFits_71 : decode cX6_wrongFits 71 = .ok (.iload_n 2, 1) := dk_28 (dk_at dksX6_wrongFits_2 23 rfl rfl)
theorem dX6_wrongFits_72 : decode cX6_wrongFits 72 = .ok (.imul, 1) := dk_104 (dk_at dksX6_wrongFits_3 0 rfl rfl)
theorem dX6_wrongFits_73 : decode cX6_wrongFits 73 = .ok (.iconst 2, 1) := dk_5 (dk_at dksX6_wrongFits_3 1 rfl rfl)
theorem dX6_wrongFits_74 : decode cX6_wrongFits 74 = .ok (.iload 4, 2) := dk_21 4 (dk_at dksX6_wrongFits_3 2 rfl rfl)
theorem dX6_wrongFits_76 : decode cX6_wrongFits 76 = .ok (.imul, 1) := dk_104 (dk_at dksX6_wrongFits_3 4 rfl rfl)
theorem dX6_wrongFits_77 : decode cX6_wrongFits 77 = .ok (.iadd, 1) := dk_96 (dk_at dksX6_wrongFits_3 5 rfl rfl)
theorem dX6_wrongFits_78 : decode cX6_wrongFits 78 = .ok (.laload, 1) := dk_47 (dk_at dksX6_wrongFits_3 6 rfl rfl)
theorem dX6_wrongFits_79 : decode cX6_wrongFits 79 = .ok (.invokevirtual 335, 3) := dk_182 1 79 (dk_at dksX6_wrongFits_3 7 rfl rfl)
theorem dX6_wrongFits_82 : decode cX6_wrongFits 82 = .ok (.ifCond .eq 26, 3) := dk_153 0 26 (dk_at dksX6_wrongFits_3 10 rfl rfl)
theorem dX6_wrongFits_85 : decode cX6_wrongFits 85 = .ok (.aload_n 0, 1) := dk_42 (dk_at dksX6_wrongFits_3 13 rfl rfl)
theorem dX6_wrongFits_86 : decode cX6_wrongFits 86 = .ok (.aload_n 0, 1) := dk_42 (dk_at dksX6_wrongFits_3 14 rfl rfl)
theorem dX6_wrongFits_87 : decode cX6_wrongFits 87 = .ok (.getfield 27, 3) := dk_180 0 27 (dk_at dksX6_wrongFits_3 15 rfl rfl)
theorem dX6_wrongFits_90 : decode cX6_wrongFits 90 = .ok (.bipush 60, 2) := dk_16 60 (dk_at dksX6_wrongFits_3 18 rfl rfl)
theorem dX6_wrongFits_92 : decode cX6_wrongFits 92 = .ok (.iload_n 2, 1) := dk_28 (dk_at dksX6_wrongFits_3 20 rfl rfl)
theorem dX6_wrongFits_93 : decode cX6_wrongFits 93 = .ok (.imul, 1) := dk_104 (dk_at dksX6_wrongFits_3 21 rfl rfl)
theorem dX6_wrongFits_94 : decode cX6_wrongFits 94 = .ok (.iconst 2, 1) := dk_5 (dk_at dksX6_wrongFits_3 22 rfl rfl)
theorem dX6_wrongFits_95 : decode cX6_wrongFits 95 = .ok (.iload 4, 2) := dk_21 4 (dk_at dksX6_wrongFits_4 0 rfl rfl)
theorem dX6_wrongFits_97 : decode cX6_wrongFits 97 = .ok (.imul, 1) := dk_104 (dk_at dksX6_wrongFits_4 2 rfl rfl)
theorem dX6_wrongFits_98 : decode cX6_wrongFits 98 = .ok (.iadd, 1) := dk_96 (dk_at dksX6_wrongFits_4 3 rfl rfl)
theorem dX6_wrongFits_99 : decode cX6_wrongFits 99 = .ok (.iconst 1, 1) := dk_4 (dk_at dksX6_wrongFits_4 4 rfl rfl)
theorem dX6_wrongFits_100 : decode cX6_wrongFits 100 = .ok (.iadd, 1) := dk_96 (dk_at dksX6_wrongFits_4 5 rfl rfl)
theorem dX6_wrongFits_101 : decode cX6_wrongFits 101 = .ok (.laload, 1) := dk_47 (dk_at dksX6_wrongFits_4 6 rfl rfl)
theorem dX6_wrongFits_102 : decode cX6_wrongFits 102 = .ok (.invokevirtual 342, 3) := dk_182 1 86 (dk_at dksX6_wrongFits_4 7 rfl rfl)
theorem dX6_wrongFits_105 : decode cX6_wrongFits 105 = .ok (.ifCond .ne 5, 3) := dk_154 0 5 (dk_at dksX6_wrongFits_4 10 rfl rfl)
theorem dX6_wrongFits_108 : decode cX6_wrongFits 108 = .ok (.iconst 5, 1) := dk_8 (dk_at dksX6_wrongFits_4 13 rfl rfl)
theorem dX6_wrongFits_109 : decode cX6_wrongFits 109 = .ok (.ireturn, 1) := dk_172 (dk_at dksX6_wrongFits_4 14 rfl rfl)
theorem dX6_wrongFits_110 : decode cX6_wrongFits 110 = .ok (.iinc 4 1, 3) := dk_132 4 1 (dk_at dksX6_wrongFits_4 15 rfl rfl)
theorem dX6_wrongFits_113 : decode cX6_wrongFits 113 = .ok (.goto (-55), 3) := dk_167 255 201 (dk_at dksX6_wrongFits_4 18 rfl rfl)
theorem dX6_wrongFits_116 : decode cX6_wrongFits 116 = .ok (.iconst 0, 1) := dk_3 (dk_at dksX6_wrongFits_4 21 rfl rfl)
theorem dX6_wrongFits_117 : decode cX6_wrongFits 117 = .ok (.ireturn, 1) := dk_172 (dk_at dksX6_wrongFits_4 22 rfl rfl)
abbrev cX6_holdsOf : ByteArray := prog_15_method_120_code
def yX6_holdsOf : MethodName := ⟨RX6, "holdsOf", "(III)I"⟩
def dkwX6_holdsOf_1 : List UInt8 := [153, 0, 10, 4, 21, 5, 120, 167, 0, 4, 3, 128, 54, 4, 132, 5, 1, 167, 255, 221, 21, 4, 172]
abbrev dktX6_holdsOf_1 : List UInt8 := dkwX6_holdsOf_1 ++ []
def dkwX6_holdsOf_0 : List UInt8 := [3, 54, 4, 3, 54, 5, 21, 5, 16, 9, 163, 0, 34, 21, 4, 42, 27, 21, 5, 28, 29, 182, 1, 120]
abbrev dktX6_holdsOf_0 : List UInt8 := dkwX6_holdsOf_0 ++ dktX6_holdsOf_1
theorem dksX6_holdsOf_0 : cX6_holdsOf.data.toList.drop 0 = dktX6_holdsOf_0 := by decide +kernel
theorem dksX6_holdsOf_1 : cX6_holdsOf.data.toList.drop 24 = dktX6_holdsOf_1 := dk_seg dksX6_holdsOf_0 24 rfl rfl
theorem dX6_holdsOf_0 : decode cX6_holdsOf 0 = .ok (.iconst 0, 1) := dk_3 (dk_at dksX6_holdsOf_0 0 rfl rfl)
theorem dX6_holdsOf_1 : decode cX6_holdsOf 1 = .ok (.istore 4, 2) := dk_54 4 (dk_at dksX6_holdsOf_0 1 rfl rfl)
theorem dX6_holdsOf_3 : decode cX6_holdsOf 3 = .ok (.iconst 0, 1) := dk_3 (dk_at dksX6_holdsOf_0 3 rfl rfl)
theorem dX6_holdsOf_4 : decode cX6_holdsOf 4 = .ok (.istore 5, 2) := dk_54 5 (dk_at dksX6_holdsOf_0 4 rfl rfl)
theorem dX6_holdsOf_6 : decode cX6_holdsOf 6 = .ok (.iload 5, 2) := dk_21 5 (dk_at dksX6_holdsOf_0 6 rfl rfl)
theorem dX6_holdsOf_8 : decode cX6_holdsOf 8 = .ok (.bipush 9, 2) := dk_16 9 (dk_at dksX6_holdsOf_0 8 rfl rfl)
theorem dX6_holdsOf_10 : decode cX6_holdsOf 10 = .ok (.if_icmp .gt 34, 3) := dk_163 0 34 (dk_at dksX6_holdsOf_0 10 rfl rfl)
theorem dX6_holdsOf_13 : decode cX6_holdsOf 13 = .ok (.iload 4, 2) := dk_21 4 (dk_at dksX6_holdsOf_0 13 rfl rfl)
theorem dX6_holdsOf_15 : decode cX6_holdsOf 15 = .ok (.aload_n 0, 1) := dk_42 (dk_at dksX6_holdsOf_0 15 rfl rfl)
theorem dX6_holdsOf_16 : decode cX6_holdsOf 16 = .ok (.iload_n 1, 1) := dk_27 (dk_at dksX6_holdsOf_0 16 rfl rfl)
theorem dX6_holdsOf_17 : decode cX6_holdsOf 17 = .ok (.iload 5, 2) := dk_21 5 (dk_at dksX6_holdsOf_0 17 rfl rfl)
theorem dX6_holdsOf_19 : decode cX6_holdsOf 19 = .ok (.iload_n 2, 1) := dk_28 (dk_at dksX6_holdsOf_0 19 rfl rfl)
theorem dX6_holdsOf_20 : decode cX6_holdsOf 20 = .ok (.iload_n 3, 1) := dk_29 (dk_at dksX6_holdsOf_0 20 rfl rfl)
theorem dX6_holdsOf_21 : decode cX6_holdsOf 21 = .ok (.invokevirtual 376, 3) := dk_182 1 120 (dk_at dksX6_holdsOf_0 21 rfl rfl)
theorem dX6_holdsOf_24 : decode cX6_holdsOf 24 = .ok (.ifCond .eq 10, 3) := dk_153 0 10 (dk_at dksX6_holdsOf_1 0 rfl rfl)
theorem dX6_holdsOf_27 : decode cX6_holdsOf 27 = .ok (.iconst 1, 1) := dk_4 (dk_at dksX6_holdsOf_1 3 rfl rfl)
theorem dX6_holdsOf_28 : decode cX6_holdsOf 28 = .ok (.iload 5, 2) := dk_21 5 (dk_at dksX6_holdsOf_1 4 rfl rfl)
theorem dX6_holdsOf_30 : decode cX6_holdsOf 30 = .ok (.ishl, 1) := dk_120 (dk_at dksX6_holdsOf_1 6 rfl rfl)
theorem dX6_holdsOf_31 : decode cX6_holdsOf 31 = .ok (.goto 4, 3) := dk_167 0 4 (dk_at dksX6_holdsOf_1 7 rfl rfl)
theorem dX6_holdsOf_34 : decode cX6_holdsOf 34 = .ok (.iconst 0, 1) := dk_3 (dk_at dksX6_holdsOf_1 10 rfl rfl)
theorem dX6_holdsOf_35 : decode cX6_holdsOf 35 = .ok (.ior, 1) := dk_128 (dk_at dksX6_holdsOf_1 11 rfl rfl)
theorem dX6_holdsOf_36 : decode cX6_holdsOf 36 = .ok (.istore 4, 2) := dk_54 4 (dk_at dksX6_holdsOf_1 12 rfl rfl)
theorem dX6_holdsOf_38 : decode cX6_holdsOf 38 = .ok (.iinc 5 1, 3) := dk_132 5 1 (dk_at dksX6_holdsOf_1 14 rfl rfl)
theorem dX6_holdsOf_41 : decode cX6_holdsOf 41 = .ok (.goto (-35), 3) := dk_167 255 221 (dk_at dksX6_holdsOf_1 17 rfl rfl)
theorem dX6_holdsOf_44 : decode cX6_holdsOf 44 = .ok (.iload 4, 2) := dk_21 4 (dk_at dksX6_holdsOf_1 20 rfl rfl)
theorem dX6_holdsOf_46 : decode cX6_holdsOf 46 = .ok (.ireturn, 1) := dk_172 (dk_at dksX6_holdsOf_1 22 rfl rfl)
abbrev cX6_doesFit : ByteArray := prog_15_method_119_code
def yX6_doesFit : MethodName := ⟨RX6, "doesFit", "(IIII)Z"⟩
def dkwX6_doesFit_4 : List UInt8 := [132, 5, 1, 167, 255, 162, 4, 172]
abbrev dktX6_doesFit_4 : List UInt8 := dkwX6_doesFit_4 ++ []
def dkwX6_doesFit_3 : List UInt8 := [182, 1, 13, 21, 7, 126, 184, 1, 49, 21, 8, 161, 0, 7, 4, 167, 0, 4, 3, 159, 0, 5, 3, 172]
abbrev dktX6_doesFit_3 : List UInt8 := dkwX6_doesFit_3 ++ dktX6_doesFit_4
def dkwX6_doesFit_2 : List UInt8 := [42, 27, 21, 6, 182, 1, 16, 100, 184, 1, 19, 54, 8, 42, 21, 7, 27, 182, 1, 7, 42, 27]
abbrev dktX6_doesFit_2 : List UInt8 := dkwX6_doesFit_2 ++ dktX6_doesFit_3
def dkwX6_doesFit_1 : List UInt8 := [136, 54, 6, 42, 180, 0, 27, 16, 60, 29, 104, 5, 21, 5, 104, 96, 4, 96, 47, 136, 54, 7, 3, 28]
abbrev dktX6_doesFit_1 : List UInt8 := dkwX6_doesFit_1 ++ dktX6_doesFit_2
def dkwX6_doesFit_0 : List UInt8 := [3, 54, 5, 21, 5, 21, 4, 162, 0, 93, 42, 180, 0, 27, 16, 60, 29, 104, 5, 21, 5, 104, 96, 47]
abbrev dktX6_doesFit_0 : List UInt8 := dkwX6_doesFit_0 ++ dktX6_doesFit_1
theorem dksX6_doesFit_0 : cX6_doesFit.data.toList.drop 0 = dktX6_doesFit_0 := by decide +kernel
theorem dksX6_doesFit_1 : cX6_doesFit.data.toList.drop 24 = dktX6_doesFit_1 := dk_seg dksX6_doesFit_0 24 rfl rfl
theorem dksX6_doesFit_2 : cX6_doesFit.data.toList.drop 48 = dktX6_doesFit_2 := dk_seg dksX6_doesFit_1 24 rfl rfl
theorem dksX6_doesFit_3 : cX6_doesFit.data.toList.drop 70 = dktX6_doesFit_3 := dk_seg dksX6_doesFit_2 22 rfl rfl
theorem dksX6_doesFit_4 : cX6_doesFit.data.toList.drop 94 = dktX6_doesFit_4 := dk_seg dksX6_doesFit_3 24 rfl rfl
theorem dX6_doesFit_0 : decode cX6_doesFit 0 = .ok (.iconst 0, 1) := dk_3 (dk_at dksX6_doesFit_0 0 rfl rfl)
theorem dX6_doesFit_1 : decode cX6_doesFit 1 = .ok (.istore 5, 2) := dk_54 5 (dk_at dksX6_doesFit_0 1 rfl rfl)
theorem dX6_doesFit_3 : decode cX6_doesFit 3 = .ok (.iload 5, 2) := dk_21 5 (dk_at dksX6_doesFit_0 3 rfl rfl)
theorem dX6_doesFit_5 : decode cX6_doesFit 5 = .ok (.iload 4, 2) := dk_21 4 (dk_at dksX6_doesFit_0 5 rfl rfl)
theorem dX6_doesFit_7 : decode cX6_doesFit 7 = .ok (.if_icmp .ge 93, 3) := dk_162 0 93 (dk_at dksX6_doesFit_0 7 rfl rfl)
theorem dX6_doesFit_10 : decode cX6_doesFit 10 = .ok (.aload_n 0, 1) := dk_42 (dk_at dksX6_doesFit_0 10 rfl rfl)
theorem dX6_doesFit_11 : decode cX6_doesFit 11 = .ok (.getfield 27, 3) := dk_180 0 27 (dk_at dksX6_doesFit_0 11 rfl rfl)
theorem dX6_doesFit_14 : decode cX6_doesFit 14 = .ok (.bipush 60, 2) := dk_16 60 (dk_at dksX6_doesFit_0 14 rfl rfl)
theorem dX6_doesFit_16 : decode cX6_doesFit 16 = .ok (.iload_n 3, 1) := dk_29 (dk_at dksX6_doesFit_0 16 rfl rfl)
theorem dX6_doesFit_17 : decode cX6_doesFit 17 = .ok (.imul, 1) := dk_104 (dk_at dksX6_doesFit_0 17 rfl rfl)
theorem dX6_doesFit_18 : decode cX6_doesFit 18 = .ok (.iconst 2, 1) := dk_5 (dk_at dksX6_doesFit_0 18 rfl rfl)
theorem dX6_doesFit_19 : decode cX6_doesFit 19 = .ok (.iload 5, 2) := dk_21 5 (dk_at dksX6_doesFit_0 19 rfl rfl)
theorem dX6_doesFit_21 : decode cX6_doesFit 21 = .ok (.imul, 1) := dk_104 (dk_at dksX6_doesFit_0 21 rfl rfl)
theorem dX6_doesFit_22 : decode cX6_doesFit 22 = .ok (.iadd, 1) := dk_96 (dk_at dksX6_doesFit_0 22 rfl rfl)
theorem dX6_doesFit_23 : decode cX6_doesFit 23 = .ok (.laload, 1) := dk_47 (dk_at dksX6_doesFit_0 23 rfl rfl)
theorem dX6_doesFit_24 : decode cX6_doesFit 24 = .ok (.l2i, 1) := dk_136 (dk_at dksX6_doesFit_1 0 rfl rfl)
theorem dX6_doesFit_25 : decode cX6_doesFit 25 = .ok (.istore 6, 2) := dk_54 6 (dk_at dksX6_doesFit_1 1 rfl rfl)
theorem dX6_doesFit_27 : decode cX6_doesFit 27 = .ok (.aload_n 0, 1) := dk_42 (dk_at dksX6_doesFit_1 3 rfl rfl)
theorem dX6_doesFit_28 : decode cX6_doesFit 28 = .ok (.getfield 27, 3) := dk_180 0 27 (dk_at dksX6_doesFit_1 4 rfl rfl)
theorem dX6_doesFit_31 : decode cX6_doesFit 31 = .ok (.bipush 60, 2) := dk_16 60 (dk_at dksX6_doesFit_1 7 rfl rfl)
theorem dX6_doesFit_33 : decode cX6_doesFit 33 = .ok (.iload_n 3, 1) := dk_29 (dk_at dksX6_doesFit_1 9 rfl rfl)
theorem dX6_doesFit_34 : decode cX6_doesFit 34 = .ok (.imul, 1) := dk_104 (dk_at dksX6_doesFit_1 10 rfl rfl)
theorem dX6_doesFit_35 : decode cX6_doesFit 35 = .ok (.iconst 2, 1) := dk_5 (dk_at dksX6_doesFit_1 11 rfl rfl)
theorem dX6_doesFit_36 : decode cX6_doesFit 36 = .ok (.iload 5, 2) := dk_21 5 (dk_at dksX6_doesFit_1 12 rfl rfl)
theorem dX6_doesFit_38 : decode cX6_doesFit 38 = .ok (.imul, 1) := dk_104 (dk_at dksX6_doesFit_1 14 rfl rfl)
theorem dX6_doesFit_39 : decode cX6_doesFit 39 = .ok (.iadd, 1) := dk_96 (dk_at dksX6_doesFit_1 15 rfl rfl)
theorem dX6_doesFit_40 : decode cX6_doesFit 40 = .ok (.iconst 1, 1) := dk_4 (dk_at dksX6_doesFit_1 16 rfl rfl)
theorem dX6_doesFit_41 : decode cX6_doesFit 41 = .ok (.iadd, 1) := dk_96 (dk_at dksX6_doesFit_1 17 rfl rfl)
theorem dX6_doesFit_42 : decode cX6_doesFit 42 = .ok (.laload, 1) := dk_47 (dk_at dksX6_doesFit_1 18 rfl rfl)
theorem dX6_doesFit_43 : decode cX6_doesFit 43 = .ok (.l2i, 1) := dk_136 (dk_at dksX6_doesFit_1 19 rfl rfl)
theorem dX6_doesFit_44 : decode cX6_doesFit 44 = .ok (.istore 7, 2) := dk_54 7 (dk_at dksX6_doesFit_1 20 rfl rfl)
theorem dX6_doesFit_46 : decode cX6_doesFit 46 = .ok (.iconst 0, 1) := dk_3 (dk_at dksX6_doesFit_1 22 rfl rfl)
theorem dX6_doesFit_47 : decode cX6_doesFit 47 = .ok (.iload_n 2, 1) := dk_28 (dk_at dksX6_doesFit_1 23 rfl rfl)
theorem dX6_doesFit_48 : decode cX6_doesFit 48 = .ok (.aload_n 0, 1) := dk_42 (dk_at dksX6_doesFit_2 0 rfl rfl)
theorem dX6_doesFit_49 : decode cX6_doesFit 49 = .ok (.iload_n 1, 1) := dk_27 (dk_at dksX6_doesFit_2 1 rfl rfl)
theorem dX6_doesFit_50 : decode cX6_doesFit 50 = .ok (.iload 6, 2) := dk_21 6 (dk_at dksX6_doesFit_2 2 rfl rfl)
theorem dX6_doesFit_52 : decode cX6_doesFit 52 = .ok (.invokevirtual 272, 3) := dk_182 1 16 (dk_at dksX6_doesFit_2 4 rfl rfl)
theorem dX6_doesFit_55 : decode cX6_doesFit 55 = .ok (.isub, 1) := dk_100 (dk_at dksX6_doesFit_2 7 rfl rfl)
theorem dX6_doesFit_56 : decode cX6_doesFit 56 = .ok (.invokestatic 275, 3) := dk_184 1 19 (dk_at dksX6_doesFit_2 8 rfl rfl)
theorem dX6_doesFit_59 : decode cX6_doesFit 59 = .ok (.istore 8, 2) := dk_54 8 (dk_at dksX6_doesFit_2 11 rfl rfl)
theorem dX6_doesFit_61 : decode cX6_doesFit 61 = .ok (.aload_n 0, 1) := dk_42 (dk_at dksX6_doesFit_2 13 rfl rfl)
theorem dX6_doesFit_62 : decode cX6_doesFit 62 = .ok (.iload 7, 2) := dk_21 7 (dk_at dksX6_doesFit_2 14 rfl rfl)
theorem dX6_doesFit_64 : decode cX6_doesFit 64 = .ok (.iload_n 1, 1) := dk_27 (dk_at dksX6_doesFit_2 16 rfl rfl)
theorem dX6_doesFit_65 : decode cX6_doesFit 65 = .ok (.invokevirtual 263, 3) := dk_182 1 7 (dk_at dksX6_doesFit_2 17 rfl rfl)
theorem dX6_doesFit_68 : decode cX6_doesFit 68 = .ok (.aload_n 0, 1) := dk_42 (dk_at dksX6_doesFit_2 20 rfl rfl)
theorem dX6_doesFit_69 : decode cX6_doesFit 69 = .ok (.iload_n 1, 1) := dk_27 (dk_at dksX6_doesFit_2 21 rfl rfl)
theorem dX6_doesFit_70 : decode cX6_doesFit 70 = .ok (.invokevirtual 269, 3) := dk_182 1 13 (dk_at dksX6_doesFit_3 0 rfl rfl)
theorem dX6_doesFit_73 : decode cX6_doesFit 73 = .ok (.iload 7, 2) := dk_21 7 (dk_at dksX6_doesFit_3 3 rfl rfl)
theorem dX6_doesFit_75 : decode cX6_doesFit 75 = .ok (.iand, 1) := dk_126 (dk_at dksX6_doesFit_3 5 rfl rfl)
theorem dX6_doesFit_76 : decode cX6_doesFit 76 = .ok (.invokestatic 305, 3) := dk_184 1 49 (dk_at dksX6_doesFit_3 6 rfl rfl)
theorem dX6_doesFit_79 : decode cX6_doesFit 79 = .ok (.iload 8, 2) := dk_21 8 (dk_at dksX6_doesFit_3 9 rfl rfl)
theorem dX6_doesFit_81 : decode cX6_doesFit 81 = .ok (.if_icmp .lt 7, 3) := dk_161 0 7 (dk_at dksX6_doesFit_3 11 rfl rfl)
theorem dX6_doesFit_84 : decode cX6_doesFit 84 = .ok (.iconst 1, 1) := dk_4 (dk_at dksX6_doesFit_3 14 rfl rfl)
theorem dX6_doesFit_85 : decode cX6_doesFit 85 = .ok (.goto 4, 3) := dk_167 0 4 (dk_at dksX6_doesFit_3 15 rfl rfl)
theorem dX6_doesFit_88 : decode cX6_doesFit 88 = .ok (.iconst 0, 1) := dk_3 (dk_at dksX6_doesFit_3 18 rfl rfl)
theorem dX6_doesFit_89 : decode cX6_doesFit 89 = .ok (.if_icmp .eq 5, 3) := dk_159 0 5 (dk_at dksX6_doesFit_3 19 rfl rfl)
theorem dX6_doesFit_92 : decode cX6_doesFit 92 = .ok (.iconst 0, 1) := dk_3 (dk_at dksX6_doesFit_3 22 rfl rfl)
theorem dX6_doesFit_93 : decode cX6_doesFit 93 = .ok (.ireturn, 1) := dk_172 (dk_at dksX6_doesFit_3 23 rfl rfl)
theorem dX6_doesFit_94 : decode cX6_doesFit 94 = .ok (.iinc 5 1, 3) := dk_132 5 1 (dk_at dksX6_doesFit_4 0 rfl rfl)
theorem dX6_doesFit_97 : decode cX6_doesFit 97 = .ok (.goto (-94), 3) := dk_167 255 162 (dk_at dksX6_doesFit_4 3 rfl rfl)
theorem dX6_doesFit_100 : decode cX6_doesFit 100 = .ok (.iconst 1, 1) := dk_4 (dk_at dksX6_doesFit_4 6 rfl rfl)
theorem dX6_doesFit_101 : decode cX6_doesFit 101 = .ok (.ireturn, 1) := dk_172 (dk_at dksX6_doesFit_4 7 rfl rfl)
abbrev cX6_fitsAt : ByteArray := prog_15_method_122_code
def yX6_fitsAt : MethodName := ⟨RX6, "fitsAt", "(IIII)I"⟩
def dkwX6_fitsAt_4 : List UInt8 := [54, 7, 167, 255, 230, 42, 21, 7, 182, 0, 82, 172]
abbrev dktX6_fitsAt_4 : List UInt8 := dkwX6_fitsAt_4 ++ []
def dkwX6_fitsAt_3 : List UInt8 := [21, 6, 21, 7, 182, 1, 7, 154, 0, 21, 21, 7, 21, 4, 154, 0, 7, 4, 167, 0, 4, 2, 96]
abbrev dktX6_fitsAt_3 : List UInt8 := dkwX6_fitsAt_3 ++ dktX6_fitsAt_4
def dkwX6_fitsAt_2 : List UInt8 := [154, 0, 10, 42, 16, 6, 182, 0, 78, 172, 21, 4, 154, 0, 7, 3, 167, 0, 5, 16, 9, 54, 7, 42]
abbrev dktX6_fitsAt_2 : List UInt8 := dkwX6_fitsAt_2 ++ dktX6_fitsAt_3
def dkwX6_fitsAt_1 : List UInt8 := [21, 5, 158, 0, 10, 42, 21, 5, 182, 0, 78, 172, 42, 27, 28, 29, 182, 1, 128, 54, 6, 21, 6]
abbrev dktX6_fitsAt_1 : List UInt8 := dkwX6_fitsAt_1 ++ dktX6_fitsAt_2
def dkwX6_fitsAt_0 : List UInt8 := [21, 4, 155, 0, 9, 21, 4, 4, 164, 0, 7, 4, 167, 0, 10, 42, 27, 28, 29, 182, 1, 124, 54, 5]
abbrev dktX6_fitsAt_0 : List UInt8 := dkwX6_fitsAt_0 ++ dktX6_fitsAt_1
theorem dksX6_fitsAt_0 : cX6_fitsAt.data.toList.drop 0 = dktX6_fitsAt_0 := by decide +kernel
theorem dksX6_fitsAt_1 : cX6_fitsAt.data.toList.drop 24 = dktX6_fitsAt_1 := dk_seg dksX6_fitsAt_0 24 rfl rfl
theorem dksX6_fitsAt_2 : cX6_fitsAt.data.toList.drop 47 = dktX6_fitsAt_2 := dk_seg dksX6_fitsAt_1 23 rfl rfl
theorem dksX6_fitsAt_3 : cX6_fitsAt.data.toList.drop 71 = dktX6_fitsAt_3 := dk_seg dksX6_fitsAt_2 24 rfl rfl
theorem dksX6_fitsAt_4 : cX6_fitsAt.data.toList.drop 94 = dktX6_fitsAt_4 := dk_seg dksX6_fitsAt_3 23 rfl rfl
theorem dX6_fitsAt_0 : decode cX6_fitsAt 0 = .ok (.iload 4, 2) := dk_21 4 (dk_at dksX6_fitsAt_0 0 rfl rfl)
theorem dX6_fitsAt_2 : decode cX6_fitsAt 2 = .ok (.ifCond .lt 9, 3) := dk_155 0 9 (dk_at dksX6_fitsAt_0 2 rfl rfl)
theorem dX6_fitsAt_5 : decode cX6_fitsAt 5 = .ok (.iload 4, 2) := dk_21 4 (dk_at dksX6_fitsAt_0 5 rfl rfl)
theorem dX6_fitsAt_7 : decode cX6_fitsAt 7 = .ok (.iconst 1, 1) := dk_4 (dk_at dksX6_fitsAt_0 7 rfl rfl)
theorem dX6_fitsAt_8 : decode cX6_fitsAt 8 = .ok (.if_icmp .le 7, 3) := dk_164 0 7 (dk_at dksX6_fitsAt_0 8 rfl rfl)
theorem dX6_fitsAt_11 : decode cX6_fitsAt 11 = .ok (.iconst 1, 1) := dk_4 (dk_at dksX6_fitsAt_0 11 rfl rfl)
theorem dX6_fitsAt_12 : decode cX6_fitsAt 12 = .ok (.goto 10, 3) := dk_167 0 10 (dk_at dksX6_fitsAt_0 12 rfl rfl)
theorem dX6_fitsAt_15 : decode cX6_fitsAt 15 = .ok (.aload_n 0, 1) := dk_42 (dk_at dksX6_fitsAt_0 15 rfl rfl)
theorem dX6_fitsAt_16 : decode cX6_fitsAt 16 = .ok (.iload_n 1, 1) := dk_27 (dk_at dksX6_fitsAt_0 16 rfl rfl)
theorem dX6_fitsAt_17 : decode cX6_fitsAt 17 = .ok (.iload_n 2, 1) := dk_28 (dk_at dksX6_fitsAt_0 17 rfl rfl)
theorem dX6_fitsAt_18 : decode cX6_fitsAt 18 = .ok (.iload_n 3, 1) := dk_29 (dk_at dksX6_fitsAt_0 18 rfl rfl)
theorem dX6_fitsAt_19 : decode cX6_fitsAt 19 = .ok (.invokevirtual 380, 3) := dk_182 1 124 (dk_at dksX6_fitsAt_0 19 rfl rfl)
theorem dX6_fitsAt_22 : decode cX6_fitsAt 22 = .ok (.istore 5, 2) := dk_54 5 (dk_at dksX6_fitsAt_0 22 rfl rfl)
theorem dX6_fitsAt_24 : decode cX6_fitsAt 24 = .ok (.iload 5, 2) := dk_21 5 (dk_at dksX6_fitsAt_1 0 rfl rfl)
theorem dX6_fitsAt_26 : decode cX6_fitsAt 26 = .ok (.ifCond .le 10, 3) := dk_158 0 10 (dk_at dksX6_fitsAt_1 2 rfl rfl)
theorem dX6_fitsAt_29 : decode cX6_fitsAt 29 = .ok (.aload_n 0, 1) := dk_42 (dk_at dksX6_fitsAt_1 5 rfl rfl)
theorem dX6_fitsAt_30 : decode cX6_fitsAt 30 = .ok (.iload 5, 2) := dk_21 5 (dk_at dksX6_fitsAt_1 6 rfl rfl)
theorem dX6_fitsAt_32 : decode cX6_fitsAt 32 = .ok (.invokevirtual 78, 3) := dk_182 0 78 (dk_at dksX6_fitsAt_1 8 rfl rfl)
theorem dX6_fitsAt_35 : decode cX6_fitsAt 35 = .ok (.ireturn, 1) := dk_172 (dk_at dksX6_fitsAt_1 11 rfl rfl)
theorem dX6_fitsAt_36 : decode cX6_fitsAt 36 = .ok (.aload_n 0, 1) := dk_42 (dk_at dksX6_fitsAt_1 12 rfl rfl)
theorem dX6_fitsAt_37 : decode cX6_fitsAt 37 = .ok (.iload_n 1, 1) := dk_27 (dk_at dksX6_fitsAt_1 13 rfl rfl)
theorem dX6_fitsAt_38 : decode cX6_fitsAt 38 = .ok (.iload_n 2, 1) := dk_28 (dk_at dksX6_fitsAt_1 14 rfl rfl)
theorem dX6_fitsAt_39 : decode cX6_fitsAt 39 = .ok (.iload_n 3, 1) := dk_29 (dk_at dksX6_fitsAt_1 15 rfl rfl)
theorem dX6_fitsAt_40 : decode cX6_fitsAt 40 = .ok (.invokevirtual 384, 3) := dk_182 1 128 (dk_at dksX6_fitsAt_1 16 rfl rfl)
theorem dX6_fitsAt_43 : decode cX6_fitsAt 43 = .ok (.istore 6, 2) := dk_54 6 (dk_at dksX6_fitsAt_1 19 rfl rfl)
theorem dX6_fitsAt_45 : decode cX6_fitsAt 45 = .ok (.iload 6, 2) := dk_21 6 (dk_at dksX6_fitsAt_1 21 rfl rfl)
theorem dX6_fitsAt_47 : decode cX6_fitsAt 47 = .ok (.ifCond .ne 10, 3) := dk_154 0 10 (dk_at dksX6_fitsAt_2 0 rfl rfl)
theorem dX6_fitsAt_50 : decode cX6_fitsAt 50 = .ok (.aload_n 0, 1) := dk_42 (dk_at dksX6_fitsAt_2 3 rfl rfl)
theorem dX6_fitsAt_51 : decode cX6_fitsAt 51 = .ok (.bipush 6, 2) := dk_16 6 (dk_at dksX6_fitsAt_2 4 rfl rfl)
theorem dX6_fitsAt_53 : decode cX6_fitsAt 53 = .ok (.invokevirtual 78, 3) := dk_182 0 78 (dk_at dksX6_fitsAt_2 6 rfl rfl)
theorem dX6_fitsAt_56 : decode cX6_fitsAt 56 = .ok (.ireturn, 1) := dk_172 (dk_at dksX6_fitsAt_2 9 rfl rfl)
theorem dX6_fitsAt_57 : decode cX6_fitsAt 57 = .ok (.iload 4, 2) := dk_21 4 (dk_at dksX6_fitsAt_2 10 rfl rfl)
theorem dX6_fitsAt_59 : decode cX6_fitsAt 59 = .ok (.ifCond .ne 7, 3) := dk_154 0 7 (dk_at dksX6_fitsAt_2 12 rfl rfl)
theorem dX6_fitsAt_62 : decode cX6_fitsAt 62 = .ok (.iconst 0, 1) := dk_3 (dk_at dksX6_fitsAt_2 15 rfl rfl)
theorem dX6_fitsAt_63 : decode cX6_fitsAt 63 = .ok (.goto 5, 3) := dk_167 0 5 (dk_at dksX6_fitsAt_2 16 rfl rfl)
theorem dX6_fitsAt_66 : decode cX6_fitsAt 66 = .ok (.bipush 9, 2) := dk_16 9 (dk_at dksX6_fitsAt_2 19 rfl rfl)
theorem dX6_fitsAt_68 : decode cX6_fitsAt 68 = .ok (.istore 7, 2) := dk_54 7 (dk_at dksX6_fitsAt_2 21 rfl rfl)
theorem dX6_fitsAt_70 : decode cX6_fitsAt 70 = .ok (.aload_n 0, 1) := dk_42 (dk_at dksX6_fitsAt_2 23 rfl rfl)
theorem dX6_fitsAt_71 : decode cX6_fitsAt 71 = .ok (.iload 6, 2) := dk_21 6 (dk_at dksX6_fitsAt_3 0 rfl rfl)
theorem dX6_fitsAt_73 : decode cX6_fitsAt 73 = .ok (.iload 7, 2) := dk_21 7 (dk_at dksX6_fitsAt_3 2 rfl rfl)
theorem dX6_fitsAt_75 : decode cX6_fitsAt 75 = .ok (.invokevirtual 263, 3) := dk_182 1 7 (dk_at dksX6_fitsAt_3 4 rfl rfl)
theorem dX6_fitsAt_78 : decode cX6_fitsAt 78 = .ok (.ifCond .ne 21, 3) := dk_154 0 21 (dk_at dksX6_fitsAt_3 7 rfl rfl)
theorem dX6_fitsAt_81 : decode cX6_fitsAt 81 = .ok (.iload 7, 2) := dk_21 7 (dk_at dksX6_fitsAt_3 10 rfl rfl)
theorem dX6_fitsAt_83 : decode cX6_fitsAt 83 = .ok (.iload 4, 2) := dk_21 4 (dk_at dksX6_fitsAt_3 12 rfl rfl)
theorem dX6_fitsAt_85 : decode cX6_fitsAt 85 = .ok (.ifCond .ne 7, 3) := dk_154 0 7 (dk_at dksX6_fitsAt_3 14 rfl rfl)
theorem dX6_fitsAt_88 : decode cX6_fitsAt 88 = .ok (.iconst 1, 1) := dk_4 (dk_at dksX6_fitsAt_3 17 rfl rfl)
theorem dX6_fitsAt_89 : decode cX6_fitsAt 89 = .ok (.goto 4, 3) := dk_167 0 4 (dk_at dksX6_fitsAt_3 18 rfl rfl)
theorem dX6_fitsAt_92 : decode cX6_fitsAt 92 = .ok (.iconst (-1), 1) := dk_2 (dk_at dksX6_fitsAt_3 21 rfl rfl)
theorem dX6_fitsAt_93 : decode cX6_fitsAt 93 = .ok (.iadd, 1) := dk_96 (dk_at dksX6_fitsAt_3 22 rfl rfl)
theorem dX6_fitsAt_94 : decode cX6_fitsAt 94 = .ok (.istore 7, 2) := dk_54 7 (dk_at dksX6_fitsAt_4 0 rfl rfl)
theorem dX6_fitsAt_96 : decode cX6_fitsAt 96 = .ok (.goto (-26), 3) := dk_167 255 230 (dk_at dksX6_fitsAt_4 2 rfl rfl)
theorem dX6_fitsAt_99 : decode cX6_fitsAt 99 = .ok (.aload_n 0, 1) := dk_42 (dk_at dksX6_fitsAt_4 5 rfl rfl)
theorem dX6_fitsAt_100 : decode cX6_fitsAt 100 = .ok (.iload 7, 2) := dk_21 7 (dk_at dksX6_fitsAt_4 6 rfl rfl)
theorem dX6_fitsAt_102 : decode cX6_fitsAt 102 = .ok (.invokevirtual 82, 3) := dk_182 0 82 (dk_at dksX6_fitsAt_4 8 rfl rfl)
theorem dX6_fitsAt_105 : decode cX6_fitsAt 105 = .ok (.ireturn, 1) := dk_172 (dk_at dksX6_fitsAt_4 11 rfl rfl)
abbrev cX6_ask : ByteArray := prog_15_method_123_code
def yX6_ask : MethodName := ⟨RX6, "ask", "(III)I"⟩
def dkwX6_ask_5 : List UInt8 := [42, 21, 6, 182, 1, 98, 172]
abbrev dktX6_ask_5 : List UInt8 := dkwX6_ask_5 ++ []
def dkwX6_ask_4 : List UInt8 := [21, 10, 21, 7, 161, 0, 6, 167, 0, 11, 21, 10, 54, 7, 21, 8, 54, 6, 132, 8, 1, 167, 255, 179]
abbrev dktX6_ask_4 : List UInt8 := dkwX6_ask_4 ++ dktX6_ask_5
def dkwX6_ask_3 : List UInt8 := [120, 4, 100, 126, 184, 1, 49, 54, 9, 21, 9, 21, 5, 184, 1, 49, 21, 9, 100, 184, 1, 19, 54, 10]
abbrev dktX6_ask_3 : List UInt8 := dkwX6_ask_3 ++ dktX6_ask_4
def dkwX6_ask_2 : List UInt8 := [162, 0, 72, 21, 5, 184, 1, 49, 4, 164, 0, 63, 21, 5, 5, 42, 27, 4, 21, 8, 120, 182, 1, 16]
abbrev dktX6_ask_2 : List UInt8 := dkwX6_ask_2 ++ dktX6_ask_3
def dkwX6_ask_1 : List UInt8 := [29, 182, 1, 128, 54, 5, 2, 54, 6, 16, 11, 54, 7, 3, 54, 8, 21, 8, 42, 180, 0, 7, 3, 46]
abbrev dktX6_ask_1 : List UInt8 := dkwX6_ask_1 ++ dktX6_ask_2
def dkwX6_ask_0 : List UInt8 := [42, 27, 28, 29, 182, 1, 124, 54, 4, 21, 4, 158, 0, 10, 42, 21, 4, 182, 0, 78, 172, 42, 27, 28]
abbrev dktX6_ask_0 : List UInt8 := dkwX6_ask_0 ++ dktX6_ask_1
theorem dksX6_ask_0 : cX6_ask.data.toList.drop 0 = dktX6_ask_0 := by decide +kernel
theorem dksX6_ask_1 : cX6_ask.data.toList.drop 24 = dktX6_ask_1 := dk_seg dksX6_ask_0 24 rfl rfl
theorem dksX6_ask_2 : cX6_ask.data.toList.drop 48 = dktX6_ask_2 := dk_seg dksX6_ask_1 24 rfl rfl
theorem dksX6_ask_3 : cX6_ask.data.toList.drop 72 = dktX6_ask_3 := dk_seg dksX6_ask_2 24 rfl rfl
theorem dksX6_ask_4 : cX6_ask.data.toList.drop 96 = dktX6_ask_4 := dk_seg dksX6_ask_3 24 rfl rfl
theorem dksX6_ask_5 : cX6_ask.data.toList.drop 120 = dktX6_ask_5 := dk_seg dksX6_ask_4 24 rfl rfl
theorem dX6_ask_0 : decode cX6_ask 0 = .ok (.aload_n 0, 1) := dk_42 (dk_at dksX6_ask_0 0 rfl rfl)
theorem dX6_ask_1 : decode cX6_ask 1 = .ok (.iload_n 1, 1) := dk_27 (dk_at dksX6_ask_0 1 rfl rfl)
theorem dX6_ask_2 : decode cX6_ask 2 = .ok (.iload_n 2, 1) := dk_28 (dk_at dksX6_ask_0 2 rfl rfl)
theorem dX6_ask_3 : decode cX6_ask 3 = .ok (.iload_n 3, 1) := dk_29 (dk_at dksX6_ask_0 3 rfl rfl)
theorem dX6_ask_4 : decode cX6_ask 4 = .ok (.invokevirtual 380, 3) := dk_182 1 124 (dk_at dksX6_ask_0 4 rfl rfl)
theorem dX6_ask_7 : decode cX6_ask 7 = .ok (.istore 4, 2) := dk_54 4 (dk_at dksX6_ask_0 7 rfl rfl)
theorem dX6_ask_9 : decode cX6_ask 9 = .ok (.iload 4, 2) := dk_21 4 (dk_at dksX6_ask_0 9 rfl rfl)
theorem dX6_ask_11 : decode cX6_ask 11 = .ok (.ifCond .le 10, 3) := dk_158 0 10 (dk_at dksX6_ask_0 11 rfl rfl)
theorem dX6_ask_14 : decode cX6_ask 14 = .ok (.aload_n 0, 1) := dk_42 (dk_at dksX6_ask_0 14 rfl rfl)
theorem dX6_ask_15 : decode cX6_ask 15 = .ok (.iload 4, 2) := dk_21 4 (dk_at dksX6_ask_0 15 rfl rfl)
theorem dX6_ask_17 : decode cX6_ask 17 = .ok (.invokevirtual 78, 3) := dk_182 0 78 (dk_at dksX6_ask_0 17 rfl rfl)
theorem dX6_ask_20 : decode cX6_ask 20 = .ok (.ireturn, 1) := dk_172 (dk_at dksX6_ask_0 20 rfl rfl)
theorem dX6_ask_21 : decode cX6_ask 21 = .ok (.aload_n 0, 1) := dk_42 (dk_at dksX6_ask_0 21 rfl rfl)
theorem dX6_ask_22 : decode cX6_ask 22 = .ok (.iload_n 1, 1) := dk_27 (dk_at dksX6_ask_0 22 rfl rfl)
theorem dX6_ask_23 : decode cX6_ask 23 = .ok (.iload_n 2, 1) := dk_28 (dk_at dksX6_ask_0 23 rfl rfl)
theorem dX6_ask_24 : decode cX6_ask 24 = .ok (.iload_n 3, 1) := dk_29 (dk_at dksX6_ask_1 0 rfl rfl)
theorem dX6_ask_25 : decode cX6_ask 25 = .ok (.invokevirtual 384, 3) := dk_182 1 128 (dk_at dksX6_ask_1 1 rfl rfl)
theorem dX6_ask_28 : decode cX6_ask 28 = .ok (.istore 5, 2) := dk_54 5 (dk_at dksX6_ask_1 4 rfl rfl)
theorem dX6_ask_30 : decode cX6_ask 30 = .ok (.iconst (-1), 1) := dk_2 (dk_at dksX6_ask_1 6 rfl rfl)
theorem dX6_ask_31 : decode cX6_ask 31 = .ok (.istore 6, 2) := dk_54 6 (dk_at dksX6_ask_1 7 rfl rfl)
theorem dX6_ask_33 : decode cX6_ask 33 = .ok (.bipush 11, 2) := dk_16 11 (dk_at dksX6_ask_1 9 rfl rfl)
theorem dX6_ask_35 : decode cX6_ask 35 = .ok (.istore 7, 2) := dk_54 7 (dk_at dksX6_ask_1 11 rfl rfl)
theorem dX6_ask_37 : decode cX6_ask 37 = .ok (.iconst 0, 1) := dk_3 (dk_at dksX6_ask_1 13 rfl rfl)
theorem dX6_ask_38 : decode cX6_ask 38 = .ok (.istore 8, 2) := dk_54 8 (dk_at dksX6_ask_1 14 rfl rfl)
theorem dX6_ask_40 : decode cX6_ask 40 = .ok (.iload 8, 2) := dk_21 8 (dk_at dksX6_ask_1 16 rfl rfl)
theorem dX6_ask_42 : decode cX6_ask 42 = .ok (.aload_n 0, 1) := dk_42 (dk_at dksX6_ask_1 18 rfl rfl)
theorem dX6_ask_43 : decode cX6_ask 43 = .ok (.getfield 7, 3) := dk_180 0 7 (dk_at dksX6_ask_1 19 rfl rfl)
theorem dX6_ask_46 : decode cX6_ask 46 = .ok (.iconst 0, 1) := dk_3 (dk_at dksX6_ask_1 22 rfl rfl)
theorem dX6_ask_47 : decode cX6_ask 47 = .ok (.iaload, 1) := dk_46 (dk_at dksX6_ask_1 23 rfl rfl)
theorem dX6_ask_48 : decode cX6_ask 48 = .ok (.if_icmp .ge 72, 3) := dk_162 0 72 (dk_at dksX6_ask_2 0 rfl rfl)
theorem dX6_ask_51 : decode cX6_ask 51 = .ok (.iload 5, 2) := dk_21 5 (dk_at dksX6_ask_2 3 rfl rfl)
theorem dX6_ask_53 : decode cX6_ask 53 = .ok (.invokestatic 305, 3) := dk_184 1 49 (dk_at dksX6_ask_2 5 rfl rfl)
theorem dX6_ask_56 : decode cX6_ask 56 = .ok (.iconst 1, 1) := dk_4 (dk_at dksX6_ask_2 8 rfl rfl)
theorem dX6_ask_57 : decode cX6_ask 57 = .ok (.if_icmp .le 63, 3) := dk_164 0 63 (dk_at dksX6_ask_2 9 rfl rfl)
theorem dX6_ask_60 : decode cX6_ask 60 = .ok (.iload 5, 2) := dk_21 5 (dk_at dksX6_ask_2 12 rfl rfl)
theorem dX6_ask_62 : decode cX6_ask 62 = .ok (.iconst 2, 1) := dk_5 (dk_at dksX6_ask_2 14 rfl rfl)
theorem dX6_ask_63 : decode cX6_ask 63 = .ok (.aload_n 0, 1) := dk_42 (dk_at dksX6_ask_2 15 rfl rfl)
theorem dX6_ask_64 : decode cX6_ask 64 = .ok (.iload_n 1, 1) := dk_27 (dk_at dksX6_ask_2 16 rfl rfl)
theorem dX6_ask_65 : decode cX6_ask 65 = .ok (.iconst 1, 1) := dk_4 (dk_at dksX6_ask_2 17 rfl rfl)
theorem dX6_ask_66 : decode cX6_ask 66 = .ok (.iload 8, 2) := dk_21 8 (dk_at dksX6_ask_2 18 rfl rfl)
theorem dX6_ask_68 : decode cX6_ask 68 = .ok (.ishl, 1) := dk_120 (dk_at dksX6_ask_2 20 rfl rfl)
theorem dX6_ask_69 : decode cX6_ask 69 = .ok (.invokevirtual 272, 3) := dk_182 1 16 (dk_at dksX6_ask_2 21 rfl rfl)
theorem dX6_ask_72 : decode cX6_ask 72 = .ok (.ishl, 1) := dk_120 (dk_at dksX6_ask_3 0 rfl rfl)
theorem dX6_ask_73 : decode cX6_ask 73 = .ok (.iconst 1, 1) := dk_4 (dk_at dksX6_ask_3 1 rfl rfl)
theorem dX6_ask_74 : decode cX6_ask 74 = .ok (.isub, 1) := dk_100 (dk_at dksX6_ask_3 2 rfl rfl)
theorem dX6_ask_75 : decode cX6_ask 75 = .ok (.iand, 1) := dk_126 (dk_at dksX6_ask_3 3 rfl rfl)
theorem dX6_ask_76 : decode cX6_ask 76 = .ok (.invokestatic 305, 3) := dk_184 1 49 (dk_at dksX6_ask_3 4 rfl rfl)
theorem dX6_ask_79 : decode cX6_ask 79 = .ok (.istore 9, 2) := dk_54 9 (dk_at dksX6_ask_3 7 rfl rfl)
theorem dX6_ask_81 : decode cX6_ask 81 = .ok (.iload 9, 2) := dk_21 9 (dk_at dksX6_ask_3 9 rfl rfl)
theorem dX6_ask_83 : decode cX6_ask 83 = .ok (.iload 5, 2) := dk_21 5 (dk_at dksX6_ask_3 11 rfl rfl)
theorem dX6_ask_85 : decode cX6_ask 85 = .ok (.invokestatic 305, 3) := dk_184 1 49 (dk_at dksX6_ask_3 13 rfl rfl)
theorem dX6_ask_88 : decode cX6_ask 88 = .ok (.iload 9, 2) := dk_21 9 (dk_at dksX6_ask_3 16 rfl rfl)
theorem dX6_ask_90 : decode cX6_ask 90 = .ok (.isub, 1) := dk_100 (dk_at dksX6_ask_3 18 rfl rfl)
theorem dX6_ask_91 : decode cX6_ask 91 = .ok (.invokestatic 275, 3) := dk_184 1 19 (dk_at dksX6_ask_3 19 rfl rfl)
theorem dX6_ask_94 : decode cX6_ask 94 = .ok (.istore 10, 2) := dk_54 10 (dk_at dksX6_ask_3 22 rfl rfl)
theorem dX6_ask_96 : decode cX6_ask 96 = .ok (.iload 10, 2) := dk_21 10 (dk_at dksX6_ask_4 0 rfl rfl)
theorem dX6_ask_98 : decode cX6_ask 98 = .ok (.iload 7, 2) := dk_21 7 (dk_at dksX6_ask_4 2 rfl rfl)
theorem dX6_ask_100 : decode cX6_ask 100 = .ok (.if_icmp .lt 6, 3) := dk_161 0 6 (dk_at dksX6_ask_4 4 rfl rfl)
theorem dX6_ask_103 : decode cX6_ask 103 = .ok (.goto 11, 3) := dk_167 0 11 (dk_at dksX6_ask_4 7 rfl rfl)
theorem dX6_ask_106 : decode cX6_ask 106 = .ok (.iload 10, 2) := dk_21 10 (dk_at dksX6_ask_4 10 rfl rfl)
theorem dX6_ask_108 : decode cX6_ask 108 = .ok (.istore 7, 2) := dk_54 7 (dk_at dksX6_ask_4 12 rfl rfl)
theorem dX6_ask_110 : decode cX6_ask 110 = .ok (.iload 8, 2) := dk_21 8 (dk_at dksX6_ask_4 14 rfl rfl)
theorem dX6_ask_112 : decode cX6_ask 112 = .ok (.istore 6, 2) := dk_54 6 (dk_at dksX6_ask_4 16 rfl rfl)
theorem dX6_ask_114 : decode cX6_ask 114 = .ok (.iinc 8 1, 3) := dk_132 8 1 (dk_at dksX6_ask_4 18 rfl rfl)
theorem dX6_ask_117 : decode cX6_ask 117 = .ok (.goto (-77), 3) := dk_167 255 179 (dk_at dksX6_ask_4 21 rfl rfl)
theorem dX6_ask_120 : decode cX6_ask 120 = .ok (.aload_n 0, 1) := dk_42 (dk_at dksX6_ask_5 0 rfl rfl)
theorem dX6_ask_121 : decode cX6_ask 121 = .ok (.iload 6, 2) := dk_21 6 (dk_at dksX6_ask_5 1 rfl rfl)
theorem dX6_ask_123 : decode cX6_ask 123 = .ok (.invokevirtual 354, 3) := dk_182 1 98 (dk_at dksX6_ask_5 3 rfl rfl)
theorem dX6_ask_126 : decode cX6_ask 126 = .ok (.ireturn, 1) := dk_172 (dk_at dksX6_ask_5 6 rfl rfl)
abbrev cX6_lookouts : ByteArray := prog_15_method_125_code
def yX6_lookouts : MethodName := ⟨RX6, "lookouts", "()I"⟩
def dkwX6_lookouts_0 : List UInt8 := [42, 42, 182, 1, 131, 184, 1, 49, 182, 0, 82, 172]
abbrev dktX6_lookouts_0 : List UInt8 := dkwX6_lookouts_0 ++ []
theorem dksX6_lookouts_0 : cX6_lookouts.data.toList.drop 0 = dktX6_lookouts_0 := by decide +kernel
theorem dX6_lookouts_0 : decode cX6_lookouts 0 = .ok (.aload_n 0, 1) := dk_42 (dk_at dksX6_lookouts_0 0 rfl rfl)
theorem dX6_lookouts_1 : decode cX6_lookouts 1 = .ok (.aload_n 0, 1) := dk_42 (dk_at dksX6_lookouts_0 1 rfl rfl)
theorem dX6_lookouts_2 : decode cX6_lookouts 2 = .ok (.invokevirtual 387, 3) := dk_182 1 131 (dk_at dksX6_lookouts_0 2 rfl rfl)
theorem dX6_lookouts_5 : decode cX6_lookouts 5 = .ok (.invokestatic 305, 3) := dk_184 1 49 (dk_at dksX6_lookouts_0 5 rfl rfl)
theorem dX6_lookouts_8 : decode cX6_lookouts 8 = .ok (.invokevirtual 82, 3) := dk_182 0 82 (dk_at dksX6_lookouts_0 8 rfl rfl)
theorem dX6_lookouts_11 : decode cX6_lookouts 11 = .ok (.ireturn, 1) := dk_172 (dk_at dksX6_lookouts_0 11 rfl rfl)
abbrev cX6_lookoutsOf : ByteArray := prog_15_method_124_code
def yX6_lookoutsOf : MethodName := ⟨RX6, "lookoutsOf", "()I"⟩
def dkwX6_lookoutsOf_5 : List UInt8 := [167, 255, 202, 29, 153, 0, 5, 28, 60, 132, 2, 1, 167, 255, 135, 27, 172]
abbrev dktX6_lookoutsOf_5 : List UInt8 := dkwX6_lookoutsOf_5 ++ []
def dkwX6_lookoutsOf_4 : List UInt8 := [154, 0, 14, 42, 21, 4, 182, 1, 13, 28, 126, 153, 0, 7, 4, 167, 0, 4, 3, 62, 132, 4, 1]
abbrev dktX6_lookoutsOf_4 : List UInt8 := dkwX6_lookoutsOf_4 ++ dktX6_lookoutsOf_5
def dkwX6_lookoutsOf_3 : List UInt8 := [162, 0, 49, 29, 153, 0, 37, 42, 21, 4, 182, 1, 40, 154, 0, 24, 42, 28, 21, 4, 182, 1, 7]
abbrev dktX6_lookoutsOf_3 : List UInt8 := dkwX6_lookoutsOf_3 ++ dktX6_lookoutsOf_4
def dkwX6_lookoutsOf_2 : List UInt8 := [160, 0, 11, 28, 27, 161, 0, 6, 167, 0, 71, 4, 62, 3, 54, 4, 21, 4, 42, 180, 0, 7, 4, 46]
abbrev dktX6_lookoutsOf_2 : List UInt8 := dkwX6_lookoutsOf_2 ++ dktX6_lookoutsOf_3
def dkwX6_lookoutsOf_1 : List UInt8 := [154, 0, 101, 28, 184, 1, 49, 27, 184, 1, 49, 163, 0, 90, 28, 184, 1, 49, 27, 184, 1, 49]
abbrev dktX6_lookoutsOf_1 : List UInt8 := dkwX6_lookoutsOf_1 ++ dktX6_lookoutsOf_2
def dkwX6_lookoutsOf_0 : List UInt8 := [42, 182, 1, 22, 60, 3, 61, 28, 42, 182, 1, 4, 163, 0, 119, 28, 42, 180, 0, 7, 16, 7, 46, 126]
abbrev dktX6_lookoutsOf_0 : List UInt8 := dkwX6_lookoutsOf_0 ++ dktX6_lookoutsOf_1
theorem dksX6_lookoutsOf_0 : cX6_lookoutsOf.data.toList.drop 0 = dktX6_lookoutsOf_0 := by decide +kernel
theorem dksX6_lookoutsOf_1 : cX6_lookoutsOf.data.toList.drop 24 = dktX6_lookoutsOf_1 := dk_seg dksX6_lookoutsOf_0 24 rfl rfl
theorem dksX6_lookoutsOf_2 : cX6_lookoutsOf.data.toList.drop 46 = dktX6_lookoutsOf_2 := dk_seg dksX6_lookoutsOf_1 22 rfl rfl
theorem dksX6_lookoutsOf_3 : cX6_lookoutsOf.data.toList.drop 70 = dktX6_lookoutsOf_3 := dk_seg dksX6_lookoutsOf_2 24 rfl rfl
theorem dksX6_lookoutsOf_4 : cX6_lookoutsOf.data.toList.drop 93 = dktX6_lookoutsOf_4 := dk_seg dksX6_lookoutsOf_3 23 rfl rfl
theorem dksX6_lookoutsOf_5 : cX6_lookoutsOf.data.toList.drop 116 = dktX6_lookoutsOf_5 := dk_seg dksX6_lookoutsOf_4 23 rfl rfl
theorem dX6_lookoutsOf_0 : decode cX6_lookoutsOf 0 = .ok (.aload_n 0, 1) := dk_42 (dk_at dksX6_lookoutsOf_0 0 rfl rfl)
theorem dX6_lookoutsOf_1 : decode cX6_lookoutsOf 1 = .ok (.invokevirtual 278, 3) := dk_182 1 22 (dk_at dksX6_lookoutsOf_0 1 rfl rfl)
theorem dX6_lookoutsOf_4 : decode cX6_lookoutsOf 4 = .ok (.istore_n 1, 1) := dk_60 (dk_at dksX6_lookoutsOf_0 4 rfl rfl)
theorem dX6_lookoutsOf_5 : decode cX6_lookoutsOf 5 = .ok (.iconst 0, 1) := dk_3 (dk_at dksX6_lookoutsOf_0 5 rfl rfl)
theorem dX6_lookoutsOf_6 : decode cX6_lookoutsOf 6 = .ok (.istore_n 2, 1) := dk_61 (dk_at dksX6_lookoutsOf_0 6 rfl rfl)
theorem dX6_lookoutsOf_7 : decode cX6_lookoutsOf 7 = .ok (.iload_n 2, 1) := dk_28 (dk_at dksX6_lookoutsOf_0 7 rfl rfl)
theorem dX6_lookoutsOf_8 : decode cX6_lookoutsOf 8 = .ok (.aload_n 0, 1) := dk_42 (dk_at dksX6_lookoutsOf_0 8 rfl rfl)
theorem dX6_lookoutsOf_9 : decode cX6_lookoutsOf 9 = .ok (.invokevirtual 260, 3) := dk_182 1 4 (dk_at dksX6_lookoutsOf_0 9 rfl rfl)
theorem dX6_lookoutsOf_12 : decode cX6_lookoutsOf 12 = .ok (.if_icmp .gt 119, 3) := dk_163 0 119 (dk_at dksX6_lookoutsOf_0 12 rfl rfl)
theorem dX6_lookoutsOf_15 : decode cX6_lookoutsOf 15 = .ok (.iload_n 2, 1) := dk_28 (dk_at dksX6_lookoutsOf_0 15 rfl rfl)
theorem dX6_lookoutsOf_16 : decode cX6_lookoutsOf 16 = .ok (.aload_n 0, 1) := dk_42 (dk_at dksX6_lookoutsOf_0 16 rfl rfl)
theorem dX6_lookoutsOf_17 : decode cX6_lookoutsOf 17 = .ok (.getfield 7, 3) := dk_180 0 7 (dk_at dksX6_lookoutsOf_0 17 rfl rfl)
theorem dX6_lookoutsOf_20 : decode cX6_lookoutsOf 20 = .ok (.bipush 7, 2) := dk_16 7 (dk_at dksX6_lookoutsOf_0 20 rfl rfl)
theorem dX6_lookoutsOf_22 : decode cX6_lookoutsOf 22 = .ok (.iaload, 1) := dk_46 (dk_at dksX6_lookoutsOf_0 22 rfl rfl)
theorem dX6_lookoutsOf_23 : decode cX6_lookoutsOf 23 = .ok (.iand, 1) := dk_126 (dk_at dksX6_lookoutsOf_0 23 rfl rfl)
theorem dX6_lookoutsOf_24 : decode cX6_lookoutsOf 24 = .ok (.ifCond .ne 101, 3) := dk_154 0 101 (dk_at dksX6_lookoutsOf_1 0 rfl rfl)
theorem dX6_lookoutsOf_27 : decode cX6_lookoutsOf 27 = .ok (.iload_n 2, 1) := dk_28 (dk_at dksX6_lookoutsOf_1 3 rfl rfl)
theorem dX6_lookoutsOf_28 : decode cX6_lookoutsOf 28 = .ok (.invokestatic 305, 3) := dk_184 1 49 (dk_at dksX6_lookoutsOf_1 4 rfl rfl)
theorem dX6_lookoutsOf_31 : decode cX6_lookoutsOf 31 = .ok (.iload_n 1, 1) := dk_27 (dk_at dksX6_lookoutsOf_1 7 rfl rfl)
theorem dX6_lookoutsOf_32 : decode cX6_lookoutsOf 32 = .ok (.invokestatic 305, 3) := dk_184 1 49 (dk_at dksX6_lookoutsOf_1 8 rfl rfl)
theorem dX6_lookoutsOf_35 : decode cX6_lookoutsOf 35 = .ok (.if_icmp .gt 90, 3) := dk_163 0 90 (dk_at dksX6_lookoutsOf_1 11 rfl rfl)
theorem dX6_lookoutsOf_38 : decode cX6_lookoutsOf 38 = .ok (.iload_n 2, 1) := dk_28 (dk_at dksX6_lookoutsOf_1 14 rfl rfl)
theorem dX6_lookoutsOf_39 : decode cX6_lookoutsOf 39 = .ok (.invokestatic 305, 3) := dk_184 1 49 (dk_at dksX6_lookoutsOf_1 15 rfl rfl)
theorem dX6_lookoutsOf_42 : decode cX6_lookoutsOf 42 = .ok (.iload_n 1, 1) := dk_27 (dk_at dksX6_lookoutsOf_1 18 rfl rfl)
theorem dX6_lookoutsOf_43 : decode cX6_lookoutsOf 43 = .ok (.invokestatic 305, 3) := dk_184 1 49 (dk_at dksX6_lookoutsOf_1 19 rfl rfl)
theorem dX6_lookoutsOf_46 : decode cX6_lookoutsOf 46 = .ok (.if_icmp .ne 11, 3) := dk_160 0 11 (dk_at dksX6_lookoutsOf_2 0 rfl rfl)
theorem dX6_lookoutsOf_49 : decode cX6_lookoutsOf 49 = .ok (.iload_n 2, 1) := dk_28 (dk_at dksX6_lookoutsOf_2 3 rfl rfl)
theorem dX6_lookoutsOf_50 : decode cX6_lookoutsOf 50 = .ok (.iload_n 1, 1) := dk_27 (dk_at dksX6_lookoutsOf_2 4 rfl rfl)
theorem dX6_lookoutsOf_51 : decode cX6_lookoutsOf 51 = .ok (.if_icmp .lt 6, 3) := dk_161 0 6 (dk_at dksX6_lookoutsOf_2 5 rfl rfl)
theorem dX6_lookoutsOf_54 : decode cX6_lookoutsOf 54 = .ok (.goto 71, 3) := dk_167 0 71 (dk_at dksX6_lookoutsOf_2 8 rfl rfl)
theorem dX6_lookoutsOf_57 : decode cX6_lookoutsOf 57 = .ok (.iconst 1, 1) := dk_4 (dk_at dksX6_lookoutsOf_2 11 rfl rfl)
theorem dX6_lookoutsOf_58 : decode cX6_lookoutsOf 58 = .ok (.istore_n 3, 1) := dk_62 (dk_at dksX6_lookoutsOf_2 12 rfl rfl)
theorem dX6_lookoutsOf_59 : decode cX6_lookoutsOf 59 = .ok (.iconst 0, 1) := dk_3 (dk_at dksX6_lookoutsOf_2 13 rfl rfl)
theorem dX6_lookoutsOf_60 : decode cX6_lookoutsOf 60 = .ok (.istore 4, 2) := dk_54 4 (dk_at dksX6_lookoutsOf_2 14 rfl rfl)
theorem dX6_lookoutsOf_62 : decode cX6_lookoutsOf 62 = .ok (.iload 4, 2) := dk_21 4 (dk_at dksX6_lookoutsOf_2 16 rfl rfl)
theorem dX6_lookoutsOf_64 : decode cX6_lookoutsOf 64 = .ok (.aload_n 0, 1) := dk_42 (dk_at dksX6_lookoutsOf_2 18 rfl rfl)
theorem dX6_lookoutsOf_65 : decode cX6_lookoutsOf 65 = .ok (.getfield 7, 3) := dk_180 0 7 (dk_at dksX6_lookoutsOf_2 19 rfl rfl)
theorem dX6_lookoutsOf_68 : decode cX6_lookoutsOf 68 = .ok (.iconst 1, 1) := dk_4 (dk_at dksX6_lookoutsOf_2 22 rfl rfl)
theorem dX6_lookoutsOf_69 : decode cX6_lookoutsOf 69 = .ok (.iaload, 1) := dk_46 (dk_at dksX6_lookoutsOf_2 23 rfl rfl)
theorem dX6_lookoutsOf_70 : decode cX6_lookoutsOf 70 = .ok (.if_icmp .ge 49, 3) := dk_162 0 49 (dk_at dksX6_lookoutsOf_3 0 rfl rfl)
theorem dX6_lookoutsOf_73 : decode cX6_lookoutsOf 73 = .ok (.iload_n 3, 1) := dk_29 (dk_at dksX6_lookoutsOf_3 3 rfl rfl)
theorem dX6_lookoutsOf_74 : decode cX6_lookoutsOf 74 = .ok (.ifCond .eq 37, 3) := dk_153 0 37 (dk_at dksX6_lookoutsOf_3 4 rfl rfl)
theorem dX6_lookoutsOf_77 : decode cX6_lookoutsOf 77 = .ok (.aload_n 0, 1) := dk_42 (dk_at dksX6_lookoutsOf_3 7 rfl rfl)
theorem dX6_lookoutsOf_78 : decode cX6_lookoutsOf 78 = .ok (.iload 4, 2) := dk_21 4 (dk_at dksX6_lookoutsOf_3 8 rfl rfl)
theorem dX6_lookoutsOf_80 : decode cX6_lookoutsOf 80 = .ok (.invokevirtual 296, 3) := dk_182 1 40 (dk_at dksX6_lookoutsOf_3 10 rfl rfl)
theorem dX6_lookoutsOf_83 : decode cX6_lookoutsOf 83 = .ok (.ifCond .ne 24, 3) := dk_154 0 24 (dk_at dksX6_lookoutsOf_3 13 rfl rfl)
theorem dX6_lookoutsOf_86 : decode cX6_lookoutsOf 86 = .ok (.aload_n 0, 1) := dk_42 (dk_at dksX6_lookoutsOf_3 16 rfl rfl)
theorem dX6_lookoutsOf_87 : decode cX6_lookoutsOf 87 = .ok (.iload_n 2, 1) := dk_28 (dk_at dksX6_lookoutsOf_3 17 rfl rfl)
theorem dX6_lookoutsOf_88 : decode cX6_lookoutsOf 88 = .ok (.iload 4, 2) := dk_21 4 (dk_at dksX6_lookoutsOf_3 18 rfl rfl)
theorem dX6_lookoutsOf_90 : decode cX6_lookoutsOf 90 = .ok (.invokevirtual 263, 3) := dk_182 1 7 (dk_at dksX6_lookoutsOf_3 20 rfl rfl)
theorem dX6_lookoutsOf_93 : decode cX6_lookoutsOf 93 = .ok (.ifCond .ne 14, 3) := dk_154 0 14 (dk_at dksX6_lookoutsOf_4 0 rfl rfl)
theorem dX6_lookoutsOf_96 : decode cX6_lookoutsOf 96 = .ok (.aload_n 0, 1) := dk_42 (dk_at dksX6_lookoutsOf_4 3 rfl rfl)
theorem dX6_lookoutsOf_97 : decode cX6_lookoutsOf 97 = .ok (.iload 4, 2) := dk_21 4 (dk_at dksX6_lookoutsOf_4 4 rfl rfl)
theorem dX6_lookoutsOf_99 : decode cX6_lookoutsOf 99 = .ok (.invokevirtual 269, 3) := dk_182 1 13 (dk_at dksX6_lookoutsOf_4 6 rfl rfl)
theorem dX6_lookoutsOf_102 : decode cX6_lookoutsOf 102 = .ok (.iload_n 2, 1) := dk_28 (dk_at dksX6_lookoutsOf_4 9 rfl rfl)
theorem dX6_lookoutsOf_103 : decode cX6_lookoutsOf 103 = .ok (.iand, 1) := dk_126 (dk_at dksX6_lookoutsOf_4 10 rfl rfl)
theorem dX6_lookoutsOf_104 : decode cX6_lookoutsOf 104 = .ok (.ifCond .eq 7, 3) := dk_153 0 7 (dk_at dksX6_lookoutsOf_4 11 rfl rfl)
theorem dX6_lookoutsOf_107 : decode cX6_lookoutsOf 107 = .ok (.iconst 1, 1) := dk_4 (dk_at dksX6_lookoutsOf_4 14 rfl rfl)
theorem dX6_lookoutsOf_108 : decode cX6_lookoutsOf 108 = .ok (.goto 4, 3) := dk_167 0 4 (dk_at dksX6_lookoutsOf_4 15 rfl rfl)
theorem dX6_lookoutsOf_111 : decode cX6_lookoutsOf 111 = .ok (.iconst 0, 1) := dk_3 (dk_at dksX6_lookoutsOf_4 18 rfl rfl)
theorem dX6_lookoutsOf_112 : decode cX6_lookoutsOf 112 = .ok (.istore_n 3, 1) := dk_62 (dk_at dksX6_lookoutsOf_4 19 rfl rfl)
theorem dX6_lookoutsOf_113 : decode cX6_lookoutsOf 113 = .ok (.iinc 4 1, 3) := dk_132 4 1 (dk_at dksX6_lookoutsOf_4 20 rfl rfl)
theorem dX6_lookoutsOf_116 : decode cX6_lookoutsOf 116 = .ok (.goto (-54), 3) := dk_167 255 202 (dk_at dksX6_lookoutsOf_5 0 rfl rfl)
theorem dX6_lookoutsOf_119 : decode cX6_lookoutsOf 119 = .ok (.iload_n 3, 1) := dk_29 (dk_at dksX6_lookoutsOf_5 3 rfl rfl)
theorem dX6_lookoutsOf_120 : decode cX6_lookoutsOf 120 = .ok (.ifCond .eq 5, 3) := dk_153 0 5 (dk_at dksX6_lookoutsOf_5 4 rfl rfl)
theorem dX6_lookoutsOf_123 : decode cX6_lookoutsOf 123 = .ok (.iload_n 2, 1) := dk_28 (dk_at dksX6_lookoutsOf_5 7 rfl rfl)
theorem dX6_lookoutsOf_124 : decode cX6_lookoutsOf 124 = .ok (.istore_n 1, 1) := dk_60 (dk_at dksX6_lookoutsOf_5 8 rfl rfl)
theorem dX6_lookoutsOf_125 : decode cX6_lookoutsOf 125 = .ok (.iinc 2 1, 3) := dk_132 2 1 (dk_at dksX6_lookoutsOf_5 9 rfl rfl)
theorem dX6_lookoutsOf_128 : decode cX6_lookoutsOf 128 = .ok (.goto (-121), 3) := dk_167 255 135 (dk_at dksX6_lookoutsOf_5 12 rfl rfl)
theorem dX6_lookoutsOf_131 : decode cX6_lookoutsOf 131 = .ok (.iload_n 1, 1) := dk_27 (dk_at dksX6_lookoutsOf_5 15 rfl rfl)
theorem dX6_lookoutsOf_132 : decode cX6_lookoutsOf 132 = .ok (.ireturn, 1) := dk_172 (dk_at dksX6_lookoutsOf_5 16 rfl rfl)
abbrev cX6_lookoutSet : ByteArray := prog_15_method_126_code
def yX6_lookoutSet : MethodName := ⟨RX6, "lookoutSet", "()I"⟩
def dkwX6_lookoutSet_0 : List UInt8 := [42, 42, 182, 1, 131, 182, 0, 82, 172]
abbrev dktX6_lookoutSet_0 : List UInt8 := dkwX6_lookoutSet_0 ++ []
theorem dksX6_lookoutSet_0 : cX6_lookoutSet.data.toList.drop 0 = dktX6_lookoutSet_0 := by decide +kernel
theorem dX6_lookoutSet_0 : decode cX6_lookoutSet 0 = .ok (.aload_n 0, 1) := dk_42 (dk_at dksX6_lookoutSet_0 0 rfl rfl)
theorem dX6_lookoutSet_1 : decode cX6_lookoutSet 1 = .ok (.aload_n 0, 1) := dk_42 (dk_at dksX6_lookoutSet_0 1 rfl rfl)
theorem dX6_lookoutSet_2 : decode cX6_lookoutSet 2 = .ok (.invokevirtual 387, 3) := dk_182 1 131 (dk_at dksX6_lookoutSet_0 2 rfl rfl)
theorem dX6_lookoutSet_5 : decode cX6_lookoutSet 5 = .ok (.invokevirtual 82, 3) := dk_182 0 82 (dk_at dksX6_lookoutSet_0 5 rfl rfl)
theorem dX6_lookoutSet_8 : decode cX6_lookoutSet 8 = .ok (.ireturn, 1) := dk_172 (dk_at dksX6_lookoutSet_0 8 rfl rfl)
abbrev cX6_couples : ByteArray := prog_15_method_127_code
def yX6_couples : MethodName := ⟨RX6, "couples", "()I"⟩
def dkwX6_couples_3 : List UInt8 := [167, 0, 4, 3, 96, 60, 132, 3, 1, 167, 255, 193, 132, 2, 1, 167, 255, 173, 42, 27, 182, 0, 82, 172]
abbrev dktX6_couples_3 : List UInt8 := dkwX6_couples_3 ++ []
def dkwX6_couples_2 : List UInt8 := [182, 1, 13, 29, 182, 1, 7, 153, 0, 20, 42, 42, 29, 182, 1, 13, 28, 182, 1, 7, 153, 0, 7, 4]
abbrev dktX6_couples_2 : List UInt8 := dkwX6_couples_2 ++ dktX6_couples_3
def dkwX6_couples_1 : List UInt8 := [46, 162, 0, 59, 27, 42, 28, 182, 1, 40, 154, 0, 41, 42, 29, 182, 1, 40, 154, 0, 33, 42, 42, 28]
abbrev dktX6_couples_1 : List UInt8 := dkwX6_couples_1 ++ dktX6_couples_2
def dkwX6_couples_0 : List UInt8 := [3, 60, 3, 61, 28, 42, 180, 0, 7, 4, 46, 162, 0, 79, 28, 4, 96, 62, 29, 42, 180, 0, 7, 4]
abbrev dktX6_couples_0 : List UInt8 := dkwX6_couples_0 ++ dktX6_couples_1
theorem dksX6_couples_0 : cX6_couples.data.toList.drop 0 = dktX6_couples_0 := by decide +kernel
theorem dksX6_couples_1 : cX6_couples.data.toList.drop 24 = dktX6_couples_1 := dk_seg dksX6_couples_0 24 rfl rfl
theorem dksX6_couples_2 : cX6_couples.data.toList.drop 48 = dktX6_couples_2 := dk_seg dksX6_couples_1 24 rfl rfl
theorem dksX6_couples_3 : cX6_couples.data.toList.drop 72 = dktX6_couples_3 := dk_seg dksX6_couples_2 24 rfl rfl
theorem dX6_couples_0 : decode cX6_couples 0 = .ok (.iconst 0, 1) := dk_3 (dk_at dksX6_couples_0 0 rfl rfl)
theorem dX6_couples_1 : decode cX6_couples 1 = .ok (.istore_n 1, 1) := dk_60 (dk_at dksX6_couples_0 1 rfl rfl)
theorem dX6_couples_2 : decode cX6_couples 2 = .ok (.iconst 0, 1) := dk_3 (dk_at dksX6_couples_0 2 rfl rfl)
theorem dX6_couples_3 : decode cX6_couples 3 = .ok (.istore_n 2, 1) := dk_61 (dk_at dksX6_couples_0 3 rfl rfl)
theorem dX6_couples_4 : decode cX6_couples 4 = .ok (.iload_n 2, 1) := dk_28 (dk_at dksX6_couples_0 4 rfl rfl)
theorem dX6_couples_5 : decode cX6_couples 5 = .ok (.aload_n 0, 1) := dk_42 (dk_at dksX6_couples_0 5 rfl rfl)
theorem dX6_couples_6 : decode cX6_couples 6 = .ok (.getfield 7, 3) := dk_180 0 7 (dk_at dksX6_couples_0 6 rfl rfl)
theorem dX6_couples_9 : decode cX6_couples 9 = .ok (.iconst 1, 1) := dk_4 (dk_at dksX6_couples_0 9 rfl rfl)
theorem dX6_couples_10 : decode cX6_couples 10 = .ok (.iaload, 1) := dk_46 (dk_at dksX6_couples_0 10 rfl rfl)
theorem dX6_couples_11 : decode cX6_couples 11 = .ok (.if_icmp .ge 79, 3) := dk_162 0 79 (dk_at dksX6_couples_0 11 rfl rfl)
theorem dX6_couples_14 : decode cX6_couples 14 = .ok (.iload_n 2, 1) := dk_28 (dk_at dksX6_couples_0 14 rfl rfl)
theorem dX6_couples_15 : decode cX6_couples 15 = .ok (.iconst 1, 1) := dk_4 (dk_at dksX6_couples_0 15 rfl rfl)
theorem dX6_couples_16 : decode cX6_couples 16 = .ok (.iadd, 1) := dk_96 (dk_at dksX6_couples_0 16 rfl rfl)
theorem dX6_couples_17 : decode cX6_couples 17 = .ok (.istore_n 3, 1) := dk_62 (dk_at dksX6_couples_0 17 rfl rfl)
theorem dX6_couples_18 : decode cX6_couples 18 = .ok (.iload_n 3, 1) := dk_29 (dk_at dksX6_couples_0 18 rfl rfl)
theorem dX6_couples_19 : decode cX6_couples 19 = .ok (.aload_n 0, 1) := dk_42 (dk_at dksX6_couples_0 19 rfl rfl)
theorem dX6_couples_20 : decode cX6_couples 20 = .ok (.getfield 7, 3) := dk_180 0 7 (dk_at dksX6_couples_0 20 rfl rfl)
theorem dX6_couples_23 : decode cX6_couples 23 = .ok (.iconst 1, 1) := dk_4 (dk_at dksX6_couples_0 23 rfl rfl)
theorem dX6_couples_24 : decode cX6_couples 24 = .ok (.iaload, 1) := dk_46 (dk_at dksX6_couples_1 0 rfl rfl)
theorem dX6_couples_25 : decode cX6_couples 25 = .ok (.if_icmp .ge 59, 3) := dk_162 0 59 (dk_at dksX6_couples_1 1 rfl rfl)
theorem dX6_couples_28 : decode cX6_couples 28 = .ok (.iload_n 1, 1) := dk_27 (dk_at dksX6_couples_1 4 rfl rfl)
theorem dX6_couples_29 : decode cX6_couples 29 = .ok (.aload_n 0, 1) := dk_42 (dk_at dksX6_couples_1 5 rfl rfl)
theorem dX6_couples_30 : decode cX6_couples 30 = .ok (.iload_n 2, 1) := dk_28 (dk_at dksX6_couples_1 6 rfl rfl)
theorem dX6_couples_31 : decode cX6_couples 31 = .ok (.invokevirtual 296, 3) := dk_182 1 40 (dk_at dksX6_couples_1 7 rfl rfl)
theorem dX6_couples_34 : decode cX6_couples 34 = .ok (.ifCond .ne 41, 3) := dk_154 0 41 (dk_at dksX6_couples_1 10 rfl rfl)
theorem dX6_couples_37 : decode cX6_couples 37 = .ok (.aload_n 0, 1) := dk_42 (dk_at dksX6_couples_1 13 rfl rfl)
theorem dX6_couples_38 : decode cX6_couples 38 = .ok (.iload_n 3, 1) := dk_29 (dk_at dksX6_couples_1 14 rfl rfl)
theorem dX6_couples_39 : decode cX6_couples 39 = .ok (.invokevirtual 296, 3) := dk_182 1 40 (dk_at dksX6_couples_1 15 rfl rfl)
theorem dX6_couples_42 : decode cX6_couples 42 = .ok (.ifCond .ne 33, 3) := dk_154 0 33 (dk_at dksX6_couples_1 18 rfl rfl)
theorem dX6_couples_45 : decode cX6_couples 45 = .ok (.aload_n 0, 1) := dk_42 (dk_at dksX6_couples_1 21 rfl rfl)
theorem dX6_couples_46 : decode cX6_couples 46 = .ok (.aload_n 0, 1) := dk_42 (dk_at dksX6_couples_1 22 rfl rfl)
theorem dX6_couples_47 : decode cX6_couples 47 = .ok (.iload_n 2, 1) := dk_28 (dk_at dksX6_couples_1 23 rfl rfl)
theorem dX6_couples_48 : decode cX6_couples 48 = .ok (.invokevirtual 269, 3) := dk_182 1 13 (dk_at dksX6_couples_2 0 rfl rfl)
theorem dX6_couples_51 : decode cX6_couples 51 = .ok (.iload_n 3, 1) := dk_29 (dk_at dksX6_couples_2 3 rfl rfl)
theorem dX6_couples_52 : decode cX6_couples 52 = .ok (.invokevirtual 263, 3) := dk_182 1 7 (dk_at dksX6_couples_2 4 rfl rfl)
theorem dX6_couples_55 : decode cX6_couples 55 = .ok (.ifCond .eq 20, 3) := dk_153 0 20 (dk_at dksX6_couples_2 7 rfl rfl)
theorem dX6_couples_58 : decode cX6_couples 58 = .ok (.aload_n 0, 1) := dk_42 (dk_at dksX6_couples_2 10 rfl rfl)
theorem dX6_couples_59 : decode cX6_couples 59 = .ok (.aload_n 0, 1) := dk_42 (dk_at dksX6_couples_2 11 rfl rfl)
theorem dX6_couples_60 : decode cX6_couples 60 = .ok (.iload_n 3, 1) := dk_29 (dk_at dksX6_couples_2 12 rfl rfl)
theorem dX6_couples_61 : decode cX6_couples 61 = .ok (.invokevirtual 269, 3) := dk_182 1 13 (dk_at dksX6_couples_2 13 rfl rfl)
theorem dX6_couples_64 : decode cX6_couples 64 = .ok (.iload_n 2, 1) := dk_28 (dk_at dksX6_couples_2 16 rfl rfl)
theorem dX6_couples_65 : decode cX6_couples 65 = .ok (.invokevirtual 263, 3) := dk_182 1 7 (dk_at dksX6_couples_2 17 rfl rfl)
theorem dX6_couples_68 : decode cX6_couples 68 = .ok (.ifCond .eq 7, 3) := dk_153 0 7 (dk_at dksX6_couples_2 20 rfl rfl)
theorem dX6_couples_71 : decode cX6_couples 71 = .ok (.iconst 1, 1) := dk_4 (dk_at dksX6_couples_2 23 rfl rfl)
theorem dX6_couples_72 : decode cX6_couples 72 = .ok (.goto 4, 3) := dk_167 0 4 (dk_at dksX6_couples_3 0 rfl rfl)
theorem dX6_couples_75 : decode cX6_couples 75 = .ok (.iconst 0, 1) := dk_3 (dk_at dksX6_couples_3 3 rfl rfl)
theorem dX6_couples_76 : decode cX6_couples 76 = .ok (.iadd, 1) := dk_96 (dk_at dksX6_couples_3 4 rfl rfl)
theorem dX6_couples_77 : decode cX6_couples 77 = .ok (.istore_n 1, 1) := dk_60 (dk_at dksX6_couples_3 5 rfl rfl)
theorem dX6_couples_78 : decode cX6_couples 78 = .ok (.iinc 3 1, 3) := dk_132 3 1 (dk_at dksX6_couples_3 6 rfl rfl)
theorem dX6_couples_81 : decode cX6_couples 81 = .ok (.goto (-63), 3) := dk_167 255 193 (dk_at dksX6_couples_3 9 rfl rfl)
theorem dX6_couples_84 : decode cX6_couples 84 = .ok (.iinc 2 1, 3) := dk_132 2 1 (dk_at dksX6_couples_3 12 rfl rfl)
theorem dX6_couples_87 : decode cX6_couples 87 = .ok (.goto (-83), 3) := dk_167 255 173 (dk_at dksX6_couples_3 15 rfl rfl)
theorem dX6_couples_90 : decode cX6_couples 90 = .ok (.aload_n 0, 1) := dk_42 (dk_at dksX6_couples_3 18 rfl rfl)
theorem dX6_couples_91 : decode cX6_couples 91 = .ok (.iload_n 1, 1) := dk_27 (dk_at dksX6_couples_3 19 rfl rfl)
theorem dX6_couples_92 : decode cX6_couples 92 = .ok (.invokevirtual 82, 3) := dk_182 0 82 (dk_at dksX6_couples_3 20 rfl rfl)
theorem dX6_couples_95 : decode cX6_couples 95 = .ok (.ireturn, 1) := dk_172 (dk_at dksX6_couples_3 23 rfl rfl)
abbrev cX6_game : ByteArray := prog_15_method_130_code
def yX6_game : MethodName := ⟨RX6, "game", "(I)I"⟩
def dkwX6_game_1 : List UInt8 := [182, 0, 78, 172]
abbrev dktX6_game_1 : List UInt8 := dkwX6_game_1 ++ []
def dkwX6_game_0 : List UInt8 := [27, 133, 9, 20, 1, 75, 184, 1, 0, 153, 0, 13, 42, 42, 27, 182, 1, 141, 182, 0, 82, 172, 42, 4]
abbrev dktX6_game_0 : List UInt8 := dkwX6_game_0 ++ dktX6_game_1
theorem dksX6_game_0 : cX6_game.data.toList.drop 0 = dktX6_game_0 := by decide +kernel
theorem dksX6_game_1 : cX6_game.data.toList.drop 24 = dktX6_game_1 := dk_seg dksX6_game_0 24 rfl rfl
theorem dX6_game_0 : decode cX6_game 0 = .ok (.iload_n 1, 1) := dk_27 (dk_at dksX6_game_0 0 rfl rfl)
theorem dX6_game_1 : decode cX6_game 1 = .ok (.i2l, 1) := dk_133 (dk_at dksX6_game_0 1 rfl rfl)
theorem dX6_game_2 : decode cX6_game 2 = .ok (.lconst 0, 1) := dk_9 (dk_at dksX6_game_0 2 rfl rfl)
theorem dX6_game_3 : decode cX6_game 3 = .ok (.ldc2_w 331, 3) := dk_20 1 75 (dk_at dksX6_game_0 3 rfl rfl)
theorem dX6_game_6 : decode cX6_game 6 = .ok (.invokestatic 256, 3) := dk_184 1 0 (dk_at dksX6_game_0 6 rfl rfl)
theorem dX6_game_9 : decode cX6_game 9 = .ok (.ifCond .eq 13, 3) := dk_153 0 13 (dk_at dksX6_game_0 9 rfl rfl)
theorem dX6_game_12 : decode cX6_game 12 = .ok (.aload_n 0, 1) := dk_42 (dk_at dksX6_game_0 12 rfl rfl)
theorem dX6_game_13 : decode cX6_game 13 = .ok (.aload_n 0, 1) := dk_42 (dk_at dksX6_game_0 13 rfl rfl)
theorem dX6_game_14 : decode cX6_game 14 = .ok (.iload_n 1, 1) := dk_27 (dk_at dksX6_game_0 14 rfl rfl)
theorem dX6_game_15 : decode cX6_game 15 = .ok (.invokevirtual 397, 3) := dk_182 1 141 (dk_at dksX6_game_0 15 rfl rfl)
theorem dX6_game_18 : decode cX6_game 18 = .ok (.invokevirtual 82, 3) := dk_182 0 82 (dk_at dksX6_game_0 18 rfl rfl)
theorem dX6_game_21 : decode cX6_game 21 = .ok (.ireturn, 1) := dk_172 (dk_at dksX6_game_0 21 rfl rfl)
theorem dX6_game_22 : decode cX6_game 22 = .ok (.aload_n 0, 1) := dk_42 (dk_at dksX6_game_0 22 rfl rfl)
theorem dX6_game_23 : decode cX6_game 23 = .ok (.iconst 1, 1) := dk_4 (dk_at dksX6_game_0 23 rfl rfl)
theorem dX6_game_24 : decode cX6_game 24 = .ok (.invokevirtual 78, 3) := dk_182 0 78 (dk_at dksX6_game_1 0 rfl rfl)
theorem dX6_game_27 : decode cX6_game 27 = .ok (.ireturn, 1) := dk_172 (dk_at dksX6_game_1 3 rfl rfl)
abbrev cX6_playing : ByteArray := prog_15_method_129_code
def yX6_playing : MethodName := ⟨RX6, "playing", "(I)I"⟩
def dkwX6_playing_6 : List UInt8 := [182, 1, 137, 172]
abbrev dktX6_playing_6 : List UInt8 := dkwX6_playing_6 ++ []
def dkwX6_playing_5 : List UInt8 := [42, 180, 0, 53, 42, 180, 0, 7, 16, 6, 46, 46, 167, 0, 15, 42, 42, 180, 0, 7, 16, 6, 46, 4]
abbrev dktX6_playing_5 : List UInt8 := dkwX6_playing_5 ++ dktX6_playing_6
def dkwX6_playing_4 : List UInt8 := [29, 42, 180, 0, 50, 29, 46, 79, 132, 3, 1, 167, 255, 233, 132, 2, 255, 167, 255, 183, 27, 154, 0, 18]
abbrev dktX6_playing_4 : List UInt8 := dkwX6_playing_4 ++ dktX6_playing_5
def dkwX6_playing_3 : List UInt8 := [182, 1, 137, 79, 132, 3, 1, 167, 255, 223, 3, 62, 29, 42, 182, 0, 253, 163, 0, 21, 42, 180, 0, 53]
abbrev dktX6_playing_3 : List UInt8 := dkwX6_playing_3 ++ dktX6_playing_4
def dkwX6_playing_2 : List UInt8 := [182, 0, 253, 163, 0, 31, 42, 180, 0, 50, 29, 42, 29, 28, 5, 112, 154, 0, 7, 4, 167, 0, 4, 3]
abbrev dktX6_playing_2 : List UInt8 := dkwX6_playing_2 ++ dktX6_playing_3
def dkwX6_playing_1 : List UInt8 := [184, 1, 49, 79, 132, 2, 1, 167, 255, 227, 27, 4, 100, 61, 28, 158, 0, 75, 3, 62, 29, 42]
abbrev dktX6_playing_1 : List UInt8 := dkwX6_playing_1 ++ dktX6_playing_2
def dkwX6_playing_0 : List UInt8 := [3, 61, 28, 42, 182, 0, 253, 163, 0, 27, 42, 180, 0, 53, 28, 42, 42, 182, 1, 22, 28, 182, 1, 56]
abbrev dktX6_playing_0 : List UInt8 := dkwX6_playing_0 ++ dktX6_playing_1
theorem dksX6_playing_0 : cX6_playing.data.toList.drop 0 = dktX6_playing_0 := by decide +kernel
theorem dksX6_playing_1 : cX6_playing.data.toList.drop 24 = dktX6_playing_1 := dk_seg dksX6_playing_0 24 rfl rfl
theorem dksX6_playing_2 : cX6_playing.data.toList.drop 46 = dktX6_playing_2 := dk_seg dksX6_playing_1 22 rfl rfl
theorem dksX6_playing_3 : cX6_playing.data.toList.drop 70 = dktX6_playing_3 := dk_seg dksX6_playing_2 24 rfl rfl
theorem dksX6_playing_4 : cX6_playing.data.toList.drop 94 = dktX6_playing_4 := dk_seg dksX6_playing_3 24 rfl rfl
theorem dksX6_playing_5 : cX6_playing.data.toList.drop 118 = dktX6_playing_5 := dk_seg dksX6_playing_4 24 rfl rfl
theorem dksX6_playing_6 : cX6_playing.data.toList.drop 142 = dktX6_playing_6 := dk_seg dksX6_playing_5 24 rfl rfl
theorem dX6_playing_0 : decode cX6_playing 0 = .ok (.iconst 0, 1) := dk_3 (dk_at dksX6_playing_0 0 rfl rfl)
theorem dX6_playing_1 : decode cX6_playing 1 = .ok (.istore_n 2, 1) := dk_61 (dk_at dksX6_playing_0 1 rfl rfl)
theorem dX6_playing_2 : decode cX6_playing 2 = .ok (.iload_n 2, 1) := dk_28 (dk_at dksX6_playing_0 2 rfl rfl)
theorem dX6_playing_3 : decode cX6_playing 3 = .ok (.aload_n 0, 1) := dk_42 (dk_at dksX6_playing_0 3 rfl rfl)
theorem dX6_playing_4 : decode cX6_playing 4 = .ok (.invokevirtual 253, 3) := dk_182 0 253 (dk_at dksX6_playing_0 4 rfl rfl)
theorem dX6_playing_7 : decode cX6_playing 7 = .ok (.if_icmp .gt 27, 3) := dk_163 0 27 (dk_at dksX6_playing_0 7 rfl rfl)
theorem dX6_playing_10 : decode cX6_playing 10 = .ok (.aload_n 0, 1) := dk_42 (dk_at dksX6_playing_0 10 rfl rfl)
theorem dX6_playing_11 : decode cX6_playing 11 = .ok (.getfield 53, 3) := dk_180 0 53 (dk_at dksX6_playing_0 11 rfl rfl)
theorem dX6_playing_14 : decode cX6_playing 14 = .ok (.iload_n 2, 1) := dk_28 (dk_at dksX6_playing_0 14 rfl rfl)
theorem dX6_playing_15 : decode cX6_playing 15 = .ok (.aload_n 0, 1) := dk_42 (dk_at dksX6_playing_0 15 rfl rfl)
theorem dX6_playing_16 : decode cX6_playing 16 = .ok (.aload_n 0, 1) := dk_42 (dk_at dksX6_playing_0 16 rfl rfl)
theorem dX6_playing_17 : decode cX6_playing 17 = .ok (.invokevirtual 278, 3) := dk_182 1 22 (dk_at dksX6_playing_0 17 rfl rfl)
theorem dX6_playing_20 : decode cX6_playing 20 = .ok (.iload_n 2, 1) := dk_28 (dk_at dksX6_playing_0 20 rfl rfl)
theorem dX6_playing_21 : decode cX6_playing 21 = .ok (.invokevirtual 312, 3) := dk_182 1 56 (dk_at dksX6_playing_0 21 rfl rfl)
theorem dX6_playing_24 : decode cX6_playing 24 = .ok (.invokestatic 305, 3) := dk_184 1 49 (dk_at dksX6_playing_1 0 rfl rfl)
theorem dX6_playing_27 : decode cX6_playing 27 = .ok (.iastore, 1) := dk_79 (dk_at dksX6_playing_1 3 rfl rfl)
theorem dX6_playing_28 : decode cX6_playing 28 = .ok (.iinc 2 1, 3) := dk_132 2 1 (dk_at dksX6_playing_1 4 rfl rfl)
theorem dX6_playing_31 : decode cX6_playing 31 = .ok (.goto (-29), 3) := dk_167 255 227 (dk_at dksX6_playing_1 7 rfl rfl)
theorem dX6_playing_34 : decode cX6_playing 34 = .ok (.iload_n 1, 1) := dk_27 (dk_at dksX6_playing_1 10 rfl rfl)
theorem dX6_playing_35 : decode cX6_playing 35 = .ok (.iconst 1, 1) := dk_4 (dk_at dksX6_playing_1 11 rfl rfl)
theorem dX6_playing_36 : decode cX6_playing 36 = .ok (.isub, 1) := dk_100 (dk_at dksX6_playing_1 12 rfl rfl)
theorem dX6_playing_37 : decode cX6_playing 37 = .ok (.istore_n 2, 1) := dk_61 (dk_at dksX6_playing_1 13 rfl rfl)
theorem dX6_playing_38 : decode cX6_playing 38 = .ok (.iload_n 2, 1) := dk_28 (dk_at dksX6_playing_1 14 rfl rfl)
theorem dX6_playing_39 : decode cX6_playing 39 = .ok (.ifCond .le 75, 3) := dk_158 0 75 (dk_at dksX6_playing_1 15 rfl rfl)
theorem dX6_playing_42 : decode cX6_playing 42 = .ok (.iconst 0, 1) := dk_3 (dk_at dksX6_playing_1 18 rfl rfl)
theorem dX6_playing_43 : decode cX6_playing 43 = .ok (.istore_n 3, 1) := dk_62 (dk_at dksX6_playing_1 19 rfl rfl)
theorem dX6_playing_44 : decode cX6_playing 44 = .ok (.iload_n 3, 1) := dk_29 (dk_at dksX6_playing_1 20 rfl rfl)
theorem dX6_playing_45 : decode cX6_playing 45 = .ok (.aload_n 0, 1) := dk_42 (dk_at dksX6_playing_1 21 rfl rfl)
theorem dX6_playing_46 : decode cX6_playing 46 = .ok (.invokevirtual 253, 3) := dk_182 0 253 (dk_at dksX6_playing_2 0 rfl rfl)
theorem dX6_playing_49 : decode cX6_playing 49 = .ok (.if_icmp .gt 31, 3) := dk_163 0 31 (dk_at dksX6_playing_2 3 rfl rfl)
theorem dX6_playing_52 : decode cX6_playing 52 = .ok (.aload_n 0, 1) := dk_42 (dk_at dksX6_playing_2 6 rfl rfl)
theorem dX6_playing_53 : decode cX6_playing 53 = .ok (.getfield 50, 3) := dk_180 0 50 (dk_at dksX6_playing_2 7 rfl rfl)
theorem dX6_playing_56 : decode cX6_playing 56 = .ok (.iload_n 3, 1) := dk_29 (dk_at dksX6_playing_2 10 rfl rfl)
theorem dX6_playing_57 : decode cX6_playing 57 = .ok (.aload_n 0, 1) := dk_42 (dk_at dksX6_playing_2 11 rfl rfl)
theorem dX6_playing_58 : decode cX6_playing 58 = .ok (.iload_n 3, 1) := dk_29 (dk_at dksX6_playing_2 12 rfl rfl)
theorem dX6_playing_59 : decode cX6_playing 59 = .ok (.iload_n 2, 1) := dk_28 (dk_at dksX6_playing_2 13 rfl rfl)
theorem dX6_playing_60 : decode cX6_playing 60 = .ok (.iconst 2, 1) := dk_5 (dk_at dksX6_playing_2 14 rfl rfl)
theorem dX6_playing_61 : decode cX6_playing 61 = .ok (.irem, 1) := dk_112 (dk_at dksX6_playing_2 15 rfl rfl)
theorem dX6_playing_62 : decode cX6_playing 62 = .ok (.ifCond .ne 7, 3) := dk_154 0 7 (dk_at dksX6_playing_2 16 rfl rfl)
theorem dX6_playing_65 : decode cX6_playing 65 = .ok (.iconst 1, 1) := dk_4 (dk_at dksX6_playing_2 19 rfl rfl)
theorem dX6_playing_66 : decode cX6_playing 66 = .ok (.goto 4, 3) := dk_167 0 4 (dk_at dksX6_playing_2 20 rfl rfl)
theorem dX6_playing_69 : decode cX6_playing 69 = .ok (.iconst 0, 1) := dk_3 (dk_at dksX6_playing_2 23 rfl rfl)
theorem dX6_playing_70 : decode cX6_playing 70 = .ok (.invokevirtual 393, 3) := dk_182 1 137 (dk_at dksX6_playing_3 0 rfl rfl)
theorem dX6_playing_73 : decode cX6_playing 73 = .ok (.iastore, 1) := dk_79 (dk_at dksX6_playing_3 3 rfl rfl)
theorem dX6_playing_74 : decode cX6_playing 74 = .ok (.iinc 3 1, 3) := dk_132 3 1 (dk_at dksX6_playing_3 4 rfl rfl)
theorem dX6_playing_77 : decode cX6_playing 77 = .ok (.goto (-33), 3) := dk_167 255 223 (dk_at dksX6_playing_3 7 rfl rfl)
theorem dX6_playing_80 : decode cX6_playing 80 = .ok (.iconst 0, 1) := dk_3 (dk_at dksX6_playing_3 10 rfl rfl)
theorem dX6_playing_81 : decode cX6_playing 81 = .ok (.istore_n 3, 1) := dk_62 (dk_at dksX6_playing_3 11 rfl rfl)
theorem dX6_playing_82 : decode cX6_playing 82 = .ok (.iload_n 3, 1) := dk_29 (dk_at dksX6_playing_3 12 rfl rfl)
theorem dX6_playing_83 : decode cX6_playing 83 = .ok (.aload_n 0, 1) := dk_42 (dk_at dksX6_playing_3 13 rfl rfl)
theorem dX6_playing_84 : decode cX6_playing 84 = .ok (.invokevirtual 253, 3) := dk_182 0 253 (dk_at dksX6_playing_3 14 rfl rfl)
theorem dX6_playing_87 : decode cX6_playing 87 = .ok (.if_icmp .gt 21, 3) := dk_163 0 21 (dk_at dksX6_playing_3 17 rfl rfl)
theorem dX6_playing_90 : decode cX6_playing 90 = .ok (.aload_n 0, 1) := dk_42 (dk_at dksX6_playing_3 20 rfl rfl)
theorem dX6_playing_91 : decode cX6_playing 91 = .ok (.getfield 53, 3) := dk_180 0 53 (dk_at dksX6_playing_3 21 rfl rfl)
theorem dX6_playing_94 : decode cX6_playing 94 = .ok (.iload_n 3, 1) := dk_29 (dk_at dksX6_playing_4 0 rfl rfl)
theorem dX6_playing_95 : decode cX6_playing 95 = .ok (.aload_n 0, 1) := dk_42 (dk_at dksX6_playing_4 1 rfl rfl)
theorem dX6_playing_96 : decode cX6_playing 96 = .ok (.getfield 50, 3) := dk_180 0 50 (dk_at dksX6_playing_4 2 rfl rfl)
theorem dX6_playing_99 : decode cX6_playing 99 = .ok (.iload_n 3, 1) := dk_29 (dk_at dksX6_playing_4 5 rfl rfl)
theorem dX6_playing_100 : decode cX6_playing 100 = .ok (.iaload, 1) := dk_46 (dk_at dksX6_playing_4 6 rfl rfl)
theorem dX6_playing_101 : decode cX6_playing 101 = .ok (.iastore, 1) := dk_79 (dk_at dksX6_playing_4 7 rfl rfl)
theorem dX6_playing_102 : decode cX6_playing 102 = .ok (.iinc 3 1, 3) := dk_132 3 1 (dk_at dksX6_playing_4 8 rfl rfl)
theorem dX6_playing_105 : decode cX6_playing 105 = .ok (.goto (-23), 3) := dk_167 255 233 (dk_at dksX6_playing_4 11 rfl rfl)
theorem dX6_playing_108 : decode cX6_playing 108 = .ok (.iinc 2 (-1), 3) := dk_132 2 255 (dk_at dksX6_playing_4 14 rfl rfl)
theorem dX6_playing_111 : decode cX6_playing 111 = .ok (.goto (-73), 3) := dk_167 255 183 (dk_at dksX6_playing_4 17 rfl rfl)
theorem dX6_playing_114 : decode cX6_playing 114 = .ok (.iload_n 1, 1) := dk_27 (dk_at dksX6_playing_4 20 rfl rfl)
theorem dX6_playing_115 : decode cX6_playing 115 = .ok (.ifCond .ne 18, 3) := dk_154 0 18 (dk_at dksX6_playing_4 21 rfl rfl)
theorem dX6_playing_118 : decode cX6_playing 118 = .ok (.aload_n 0, 1) := dk_42 (dk_at dksX6_playing_5 0 rfl rfl)
theorem dX6_playing_119 : decode cX6_playing 119 = .ok (.getfield 53, 3) := dk_180 0 53 (dk_at dksX6_playing_5 1 rfl rfl)
theorem dX6_playing_122 : decode cX6_playing 122 = .ok (.aload_n 0, 1) := dk_42 (dk_at dksX6_playing_5 4 rfl rfl)
theorem dX6_playing_123 : decode cX6_playing 123 = .ok (.getfield 7, 3) := dk_180 0 7 (dk_at dksX6_playing_5 5 rfl rfl)
theorem dX6_playing_126 : decode cX6_playing 126 = .ok (.bipush 6, 2) := dk_16 6 (dk_at dksX6_playing_5 8 rfl rfl)
theorem dX6_playing_128 : decode cX6_playing 128 = .ok (.iaload, 1) := dk_46 (dk_at dksX6_playing_5 10 rfl rfl)
theorem dX6_playing_129 : decode cX6_playing 129 = .ok (.iaload, 1) := dk_46 (dk_at dksX6_playing_5 11 rfl rfl)
theorem dX6_playing_130 : decode cX6_playing 130 = .ok (.goto 15, 3) := dk_167 0 15 (dk_at dksX6_playing_5 12 rfl rfl)
theorem dX6_playing_133 : decode cX6_playing 133 = .ok (.aload_n 0, 1) := dk_42 (dk_at dksX6_playing_5 15 rfl rfl)
theorem dX6_playing_134 : decode cX6_playing 134 = .ok (.aload_n 0, 1) := dk_42 (dk_at dksX6_playing_5 16 rfl rfl)
theorem dX6_playing_135 : decode cX6_playing 135 = .ok (.getfield 7, 3) := dk_180 0 7 (dk_at dksX6_playing_5 17 rfl rfl)
theorem dX6_playing_138 : decode cX6_playing 138 = .ok (.bipush 6, 2) := dk_16 6 (dk_at dksX6_playing_5 20 rfl rfl)
theorem dX6_playing_140 : decode cX6_playing 140 = .ok (.iaload, 1) := dk_46 (dk_at dksX6_playing_5 22 rfl rfl)
theorem dX6_playing_141 : decode cX6_playing 141 = .ok (.iconst 1, 1) := dk_4 (dk_at dksX6_playing_5 23 rfl rfl)
theorem dX6_playing_142 : decode cX6_playing 142 = .ok (.invokevirtual 393, 3) := dk_182 1 137 (dk_at dksX6_playing_6 0 rfl rfl)
theorem dX6_playing_145 : decode cX6_playing 145 = .ok (.ireturn, 1) := dk_172 (dk_at dksX6_playing_6 3 rfl rfl)
abbrev cX6_turnsTo : ByteArray := prog_15_method_128_code
def yX6_turnsTo : MethodName := ⟨RX6, "turnsTo", "(IZ)I"⟩
def dkwX6_turnsTo_3 : List UInt8 := [161, 0, 6, 167, 0, 12, 21, 5, 62, 42, 21, 4, 181, 1, 134, 132, 4, 1, 167, 255, 178, 29, 172]
abbrev dktX6_turnsTo_3 : List UInt8 := dkwX6_turnsTo_3 ++ []
def dkwX6_turnsTo_2 : List UInt8 := [46, 54, 5, 29, 2, 159, 0, 25, 28, 153, 0, 12, 21, 5, 29, 163, 0, 15, 167, 0, 21, 21, 5, 29]
abbrev dktX6_turnsTo_2 : List UInt8 := dkwX6_turnsTo_2 ++ dktX6_turnsTo_3
def dkwX6_turnsTo_1 : List UInt8 := [180, 0, 53, 21, 4, 42, 180, 0, 7, 3, 46, 160, 0, 7, 27, 167, 0, 9, 27, 4, 21, 4, 120, 130]
abbrev dktX6_turnsTo_1 : List UInt8 := dkwX6_turnsTo_1 ++ dktX6_turnsTo_2
def dkwX6_turnsTo_0 : List UInt8 := [2, 62, 42, 2, 181, 1, 134, 3, 54, 4, 21, 4, 42, 180, 0, 7, 3, 46, 163, 0, 73, 42]
abbrev dktX6_turnsTo_0 : List UInt8 := dkwX6_turnsTo_0 ++ dktX6_turnsTo_1
theorem dksX6_turnsTo_0 : cX6_turnsTo.data.toList.drop 0 = dktX6_turnsTo_0 := by decide +kernel
theorem dksX6_turnsTo_1 : cX6_turnsTo.data.toList.drop 22 = dktX6_turnsTo_1 := dk_seg dksX6_turnsTo_0 22 rfl rfl
theorem dksX6_turnsTo_2 : cX6_turnsTo.data.toList.drop 46 = dktX6_turnsTo_2 := dk_seg dksX6_turnsTo_1 24 rfl rfl
theorem dksX6_turnsTo_3 : cX6_turnsTo.data.toList.drop 70 = dktX6_turnsTo_3 := dk_seg dksX6_turnsTo_2 24 rfl rfl
theorem dX6_turnsTo_0 : decode cX6_turnsTo 0 = .ok (.iconst (-1), 1) := dk_2 (dk_at dksX6_turnsTo_0 0 rfl rfl)
theorem dX6_turnsTo_1 : decode cX6_turnsTo 1 = .ok (.istore_n 3, 1) := dk_62 (dk_at dksX6_turnsTo_0 1 rfl rfl)
theorem dX6_turnsTo_2 : decode cX6_turnsTo 2 = .ok (.aload_n 0, 1) := dk_42 (dk_at dksX6_turnsTo_0 2 rfl rfl)
theorem dX6_turnsTo_3 : decode cX6_turnsTo 3 = .ok (.iconst (-1), 1) := dk_2 (dk_at dksX6_turnsTo_0 3 rfl rfl)
theorem dX6_turnsTo_4 : decode cX6_turnsTo 4 = .ok (.putfield 390, 3) := dk_181 1 134 (dk_at dksX6_turnsTo_0 4 rfl rfl)
theorem dX6_turnsTo_7 : decode cX6_turnsTo 7 = .ok (.iconst 0, 1) := dk_3 (dk_at dksX6_turnsTo_0 7 rfl rfl)
theorem dX6_turnsTo_8 : decode cX6_turnsTo 8 = .ok (.istore 4, 2) := dk_54 4 (dk_at dksX6_turnsTo_0 8 rfl rfl)
theorem dX6_turnsTo_10 : decode cX6_turnsTo 10 = .ok (.iload 4, 2) := dk_21 4 (dk_at dksX6_turnsTo_0 10 rfl rfl)
theorem dX6_turnsTo_12 : decode cX6_turnsTo 12 = .ok (.aload_n 0, 1) := dk_42 (dk_at dksX6_turnsTo_0 12 rfl rfl)
theorem dX6_turnsTo_13 : decode cX6_turnsTo 13 = .ok (.getfield 7, 3) := dk_180 0 7 (dk_at dksX6_turnsTo_0 13 rfl rfl)
theorem dX6_turnsTo_16 : decode cX6_turnsTo 16 = .ok (.iconst 0, 1) := dk_3 (dk_at dksX6_turnsTo_0 16 rfl rfl)
theorem dX6_turnsTo_17 : decode cX6_turnsTo 17 = .ok (.iaload, 1) := dk_46 (dk_at dksX6_turnsTo_0 17 rfl rfl)
theorem dX6_turnsTo_18 : decode cX6_turnsTo 18 = .ok (.if_icmp .gt 73, 3) := dk_163 0 73 (dk_at dksX6_turnsTo_0 18 rfl rfl)
theorem dX6_turnsTo_21 : decode cX6_turnsTo 21 = .ok (.aload_n 0, 1) := dk_42 (dk_at dksX6_turnsTo_0 21 rfl rfl)
theorem dX6_turnsTo_22 : decode cX6_turnsTo 22 = .ok (.getfield 53, 3) := dk_180 0 53 (dk_at dksX6_turnsTo_1 0 rfl rfl)
theorem dX6_turnsTo_25 : decode cX6_turnsTo 25 = .ok (.iload 4, 2) := dk_21 4 (dk_at dksX6_turnsTo_1 3 rfl rfl)
theorem dX6_turnsTo_27 : decode cX6_turnsTo 27 = .ok (.aload_n 0, 1) := dk_42 (dk_at dksX6_turnsTo_1 5 rfl rfl)
theorem dX6_turnsTo_28 : decode cX6_turnsTo 28 = .ok (.getfield 7, 3) := dk_180 0 7 (dk_at dksX6_turnsTo_1 6 rfl rfl)
theorem dX6_turnsTo_31 : decode cX6_turnsTo 31 = .ok (.iconst 0, 1) := dk_3 (dk_at dksX6_turnsTo_1 9 rfl rfl)
theorem dX6_turnsTo_32 : decode cX6_turnsTo 32 = .ok (.iaload, 1) := dk_46 (dk_at dksX6_turnsTo_1 10 rfl rfl)
theorem dX6_turnsTo_33 : decode cX6_turnsTo 33 = .ok (.if_icmp .ne 7, 3) := dk_160 0 7 (dk_at dksX6_turnsTo_1 11 rfl rfl)
theorem dX6_turnsTo_36 : decode cX6_turnsTo 36 = .ok (.iload_n 1, 1) := dk_27 (dk_at dksX6_turnsTo_1 14 rfl rfl)
theorem dX6_turnsTo_37 : decode cX6_turnsTo 37 = .ok (.goto 9, 3) := dk_167 0 9 (dk_at dksX6_turnsTo_1 15 rfl rfl)
theorem dX6_turnsTo_40 : decode cX6_turnsTo 40 = .ok (.iload_n 1, 1) := dk_27 (dk_at dksX6_turnsTo_1 18 rfl rfl)
theorem dX6_turnsTo_41 : decode cX6_turnsTo 41 = .ok (.iconst 1, 1) := dk_4 (dk_at dksX6_turnsTo_1 19 rfl rfl)
theorem dX6_turnsTo_42 : decode cX6_turnsTo 42 = .ok (.iload 4, 2) := dk_21 4 (dk_at dksX6_turnsTo_1 20 rfl rfl)
theorem dX6_turnsTo_44 : decode cX6_turnsTo 44 = .ok (.ishl, 1) := dk_120 (dk_at dksX6_turnsTo_1 22 rfl rfl)
theorem dX6_turnsTo_45 : decode cX6_turnsTo 45 = .ok (.ixor, 1) := dk_130 (dk_at dksX6_turnsTo_1 23 rfl rfl)
theorem dX6_turnsTo_46 : decode cX6_turnsTo 46 = .ok (.iaload, 1) := dk_46 (dk_at dksX6_turnsTo_2 0 rfl rfl)
theorem dX6_turnsTo_47 : decode cX6_turnsTo 47 = .ok (.istore 5, 2) := dk_54 5 (dk_at dksX6_turnsTo_2 1 rfl rfl)
theorem dX6_turnsTo_49 : decode cX6_turnsTo 49 = .ok (.iload_n 3, 1) := dk_29 (dk_at dksX6_turnsTo_2 3 rfl rfl)
theorem dX6_turnsTo_50 : decode cX6_turnsTo 50 = .ok (.iconst (-1), 1) := dk_2 (dk_at dksX6_turnsTo_2 4 rfl rfl)
theorem dX6_turnsTo_51 : decode cX6_turnsTo 51 = .ok (.if_icmp .eq 25, 3) := dk_159 0 25 (dk_at dksX6_turnsTo_2 5 rfl rfl)
theorem dX6_turnsTo_54 : decode cX6_turnsTo 54 = .ok (.iload_n 2, 1) := dk_28 (dk_at dksX6_turnsTo_2 8 rfl rfl)
theorem dX6_turnsTo_55 : decode cX6_turnsTo 55 = .ok (.ifCond .eq 12, 3) := dk_153 0 12 (dk_at dksX6_turnsTo_2 9 rfl rfl)
theorem dX6_turnsTo_58 : decode cX6_turnsTo 58 = .ok (.iload 5, 2) := dk_21 5 (dk_at dksX6_turnsTo_2 12 rfl rfl)
theorem dX6_turnsTo_60 : decode cX6_turnsTo 60 = .ok (.iload_n 3, 1) := dk_29 (dk_at dksX6_turnsTo_2 14 rfl rfl)
theorem dX6_turnsTo_61 : decode cX6_turnsTo 61 = .ok (.if_icmp .gt 15, 3) := dk_163 0 15 (dk_at dksX6_turnsTo_2 15 rfl rfl)
theorem dX6_turnsTo_64 : decode cX6_turnsTo 64 = .ok (.goto 21, 3) := dk_167 0 21 (dk_at dksX6_turnsTo_2 18 rfl rfl)
theorem dX6_turnsTo_67 : decode cX6_turnsTo 67 = .ok (.iload 5, 2) := dk_21 5 (dk_at dksX6_turnsTo_2 21 rfl rfl)
theorem dX6_turnsTo_69 : decode cX6_turnsTo 69 = .ok (.iload_n 3, 1) := dk_29 (dk_at dksX6_turnsTo_2 23 rfl rfl)
theorem dX6_turnsTo_70 : decode cX6_turnsTo 70 = .ok (.if_icmp .lt 6, 3) := dk_161 0 6 (dk_at dksX6_turnsTo_3 0 rfl rfl)
theorem dX6_turnsTo_73 : decode cX6_turnsTo 73 = .ok (.goto 12, 3) := dk_167 0 12 (dk_at dksX6_turnsTo_3 3 rfl rfl)
theorem dX6_turnsTo_76 : decode cX6_turnsTo 76 = .ok (.iload 5, 2) := dk_21 5 (dk_at dksX6_turnsTo_3 6 rfl rfl)
theorem dX6_turnsTo_78 : decode cX6_turnsTo 78 = .ok (.istore_n 3, 1) := dk_62 (dk_at dksX6_turnsTo_3 8 rfl rfl)
theorem dX6_turnsTo_79 : decode cX6_turnsTo 79 = .ok (.aload_n 0, 1) := dk_42 (dk_at dksX6_turnsTo_3 9 rfl rfl)
theorem dX6_turnsTo_80 : decode cX6_turnsTo 80 = .ok (.iload 4, 2) := dk_21 4 (dk_at dksX6_turnsTo_3 10 rfl rfl)
theorem dX6_turnsTo_82 : decode cX6_turnsTo 82 = .ok (.putfield 390, 3) := dk_181 1 134 (dk_at dksX6_turnsTo_3 12 rfl rfl)
theorem dX6_turnsTo_85 : decode cX6_turnsTo 85 = .ok (.iinc 4 1, 3) := dk_132 4 1 (dk_at dksX6_turnsTo_3 15 rfl rfl)
theorem dX6_turnsTo_88 : decode cX6_turnsTo 88 = .ok (.goto (-78), 3) := dk_167 255 178 (dk_at dksX6_turnsTo_3 18 rfl rfl)
theorem dX6_turnsTo_91 : decode cX6_turnsTo 91 = .ok (.iload_n 3, 1) := dk_29 (dk_at dksX6_turnsTo_3 21 rfl rfl)
theorem dX6_turnsTo_92 : decode cX6_turnsTo 92 = .ok (.ireturn, 1) := dk_172 (dk_at dksX6_turnsTo_3 22 rfl rfl)
abbrev cX6_moveOf : ByteArray := prog_15_method_131_code
def yX6_moveOf : MethodName := ⟨RX6, "moveOf", "(I)I"⟩
def dkwX6_moveOf_2 : List UInt8 := [180, 1, 134, 182, 0, 82, 172]
abbrev dktX6_moveOf_2 : List UInt8 := dkwX6_moveOf_2 ++ []
def dkwX6_moveOf_1 : List UInt8 := [42, 180, 1, 134, 42, 180, 0, 7, 3, 46, 160, 0, 12, 42, 16, 6, 182, 0, 78, 167, 0, 11, 42, 42]
abbrev dktX6_moveOf_1 : List UInt8 := dkwX6_moveOf_1 ++ dktX6_moveOf_2
def dkwX6_moveOf_0 : List UInt8 := [27, 133, 10, 20, 1, 75, 184, 1, 0, 154, 0, 9, 42, 4, 182, 0, 78, 172, 42, 27, 182, 1, 141, 87]
abbrev dktX6_moveOf_0 : List UInt8 := dkwX6_moveOf_0 ++ dktX6_moveOf_1
theorem dksX6_moveOf_0 : cX6_moveOf.data.toList.drop 0 = dktX6_moveOf_0 := by decide +kernel
theorem dksX6_moveOf_1 : cX6_moveOf.data.toList.drop 24 = dktX6_moveOf_1 := dk_seg dksX6_moveOf_0 24 rfl rfl
theorem dksX6_moveOf_2 : cX6_moveOf.data.toList.drop 48 = dktX6_moveOf_2 := dk_seg dksX6_moveOf_1 24 rfl rfl
theorem dX6_moveOf_0 : decode cX6_moveOf 0 = .ok (.iload_n 1, 1) := dk_27 (dk_at dksX6_moveOf_0 0 rfl rfl)
theorem dX6_moveOf_1 : decode cX6_moveOf 1 = .ok (.i2l, 1) := dk_133 (dk_at dksX6_moveOf_0 1 rfl rfl)
theorem dX6_moveOf_2 : decode cX6_moveOf 2 = .ok (.lconst 1, 1) := dk_10 (dk_at dksX6_moveOf_0 2 rfl rfl)
theorem dX6_moveOf_3 : decode cX6_moveOf 3 = .ok (.ldc2_w 331, 3) := dk_20 1 75 (dk_at dksX6_moveOf_0 3 rfl rfl)
theorem dX6_moveOf_6 : decode cX6_moveOf 6 = .ok (.invokestatic 256, 3) := dk_184 1 0 (dk_at dksX6_moveOf_0 6 rfl rfl)
theorem dX6_moveOf_9 : decode cX6_moveOf 9 = .ok (.ifCond .ne 9, 3) := dk_154 0 9 (dk_at dksX6_moveOf_0 9 rfl rfl)
theorem dX6_moveOf_12 : decode cX6_moveOf 12 = .ok (.aload_n 0, 1) := dk_42 (dk_at dksX6_moveOf_0 12 rfl rfl)
theorem dX6_moveOf_13 : decode cX6_moveOf 13 = .ok (.iconst 1, 1) := dk_4 (dk_at dksX6_moveOf_0 13 rfl rfl)
theorem dX6_moveOf_14 : decode cX6_moveOf 14 = .ok (.invokevirtual 78, 3) := dk_182 0 78 (dk_at dksX6_moveOf_0 14 rfl rfl)
theorem dX6_moveOf_17 : decode cX6_moveOf 17 = .ok (.ireturn, 1) := dk_172 (dk_at dksX6_moveOf_0 17 rfl rfl)
theorem dX6_moveOf_18 : decode cX6_moveOf 18 = .ok (.aload_n 0, 1) := dk_42 (dk_at dksX6_moveOf_0 18 rfl rfl)
theorem dX6_moveOf_19 : decode cX6_moveOf 19 = .ok (.iload_n 1, 1) := dk_27 (dk_at dksX6_moveOf_0 19 rfl rfl)
theorem dX6_moveOf_20 : decode cX6_moveOf 20 = .ok (.invokevirtual 397, 3) := dk_182 1 141 (dk_at dksX6_moveOf_0 20 rfl rfl)
theorem dX6_moveOf_23 : decode cX6_moveOf 23 = .ok (.pop, 1) := dk_87 (dk_at dksX6_moveOf_0 23 rfl rfl)
theorem dX6_moveOf_24 : decode cX6_moveOf 24 = .ok (.aload_n 0, 1) := dk_42 (dk_at dksX6_moveOf_1 0 rfl rfl)
theorem dX6_moveOf_25 : decode cX6_moveOf 25 = .ok (.getfield 390, 3) := dk_180 1 134 (dk_at dksX6_moveOf_1 1 rfl rfl)
theorem dX6_moveOf_28 : decode cX6_moveOf 28 = .ok (.aload_n 0, 1) := dk_42 (dk_at dksX6_moveOf_1 4 rfl rfl)
theorem dX6_moveOf_29 : decode cX6_moveOf 29 = .ok (.getfield 7, 3) := dk_180 0 7 (dk_at dksX6_moveOf_1 5 rfl rfl)
theorem dX6_moveOf_32 : decode cX6_moveOf 32 = .ok (.iconst 0, 1) := dk_3 (dk_at dksX6_moveOf_1 8 rfl rfl)
theorem dX6_moveOf_33 : decode cX6_moveOf 33 = .ok (.iaload, 1) := dk_46 (dk_at dksX6_moveOf_1 9 rfl rfl)
theorem dX6_moveOf_34 : decode cX6_moveOf 34 = .ok (.if_icmp .ne 12, 3) := dk_160 0 12 (dk_at dksX6_moveOf_1 10 rfl rfl)
theorem dX6_moveOf_37 : decode cX6_moveOf 37 = .ok (.aload_n 0, 1) := dk_42 (dk_at dksX6_moveOf_1 13 rfl rfl)
theorem dX6_moveOf_38 : decode cX6_moveOf 38 = .ok (.bipush 6, 2) := dk_16 6 (dk_at dksX6_moveOf_1 14 rfl rfl)
theorem dX6_moveOf_40 : decode cX6_moveOf 40 = .ok (.invokevirtual 78, 3) := dk_182 0 78 (dk_at dksX6_moveOf_1 16 rfl rfl)
theorem dX6_moveOf_43 : decode cX6_moveOf 43 = .ok (.goto 11, 3) := dk_167 0 11 (dk_at dksX6_moveOf_1 19 rfl rfl)
theorem dX6_moveOf_46 : decode cX6_moveOf 46 = .ok (.aload_n 0, 1) := dk_42 (dk_at dksX6_moveOf_1 22 rfl rfl)
theorem dX6_moveOf_47 : decode cX6_moveOf 47 = .ok (.aload_n 0, 1) := dk_42 (dk_at dksX6_moveOf_1 23 rfl rfl)
theorem dX6_moveOf_48 : decode cX6_moveOf 48 = .ok (.getfield 390, 3) := dk_180 1 134 (dk_at dksX6_moveOf_2 0 rfl rfl)
theorem dX6_moveOf_51 : decode cX6_moveOf 51 = .ok (.invokevirtual 82, 3) := dk_182 0 82 (dk_at dksX6_moveOf_2 3 rfl rfl)
theorem dX6_moveOf_54 : decode cX6_moveOf 54 = .ok (.ireturn, 1) := dk_172 (dk_at dksX6_moveOf_2 6 rfl rfl)
abbrev cX6_tides : ByteArray := prog_15_method_132_code
def yX6_tides : MethodName := ⟨RX6, "tides", "(II)Z"⟩
def dkwX6_tides_8 : List UInt8 := [33, 182, 1, 146, 172]
abbrev dktX6_tides_8 : List UInt8 := dkwX6_tides_8 ++ []
def dkwX6_tides_7 : List UInt8 := [162, 0, 21, 22, 5, 42, 180, 0, 56, 21, 7, 47, 97, 55, 5, 132, 7, 1, 167, 255, 234, 42, 22, 5]
abbrev dktX6_tides_7 : List UInt8 := dkwX6_tides_7 ++ dktX6_tides_8
def dkwX6_tides_6 : List UInt8 := [33, 20, 1, 77, 105, 66, 132, 5, 1, 167, 255, 174, 9, 55, 5, 28, 54, 7, 21, 7, 16, 13]
abbrev dktX6_tides_6 : List UInt8 := dkwX6_tides_6 ++ dktX6_tides_7
def dkwX6_tides_5 : List UInt8 := [180, 0, 56, 21, 6, 4, 100, 47, 42, 180, 0, 7, 7, 46, 133, 105, 97, 80, 132, 6, 255, 167, 255, 196]
abbrev dktX6_tides_5 : List UInt8 := dkwX6_tides_5 ++ dktX6_tides_6
def dkwX6_tides_4 : List UInt8 := [47, 16, 16, 42, 180, 0, 7, 7, 46, 100, 133, 105, 21, 6, 154, 0, 7, 9, 167, 0, 20, 42]
abbrev dktX6_tides_4 : List UInt8 := dkwX6_tides_4 ++ dktX6_tides_5
def dkwX6_tides_3 : List UInt8 := [162, 0, 82, 16, 12, 54, 6, 21, 6, 155, 0, 61, 42, 180, 0, 56, 21, 6, 42, 180, 0, 56, 21, 6]
abbrev dktX6_tides_3 : List UInt8 := dkwX6_tides_3 ++ dktX6_tides_4
def dkwX6_tides_2 : List UInt8 := [21, 5, 154, 0, 7, 10, 167, 0, 4, 9, 80, 132, 5, 1, 167, 255, 229, 3, 54, 5, 21, 5, 27]
abbrev dktX6_tides_2 : List UInt8 := dkwX6_tides_2 ++ dktX6_tides_3
def dkwX6_tides_1 : List UInt8 := [42, 4, 182, 0, 85, 172, 10, 66, 3, 54, 5, 21, 5, 16, 13, 162, 0, 26, 42, 180, 0, 56, 21, 5]
abbrev dktX6_tides_1 : List UInt8 := dkwX6_tides_1 ++ dktX6_tides_2
def dkwX6_tides_0 : List UInt8 := [27, 133, 9, 20, 1, 144, 184, 1, 0, 153, 0, 15, 28, 133, 9, 20, 1, 144, 184, 1, 0, 154, 0, 9]
abbrev dktX6_tides_0 : List UInt8 := dkwX6_tides_0 ++ dktX6_tides_1
theorem dksX6_tides_0 : cX6_tides.data.toList.drop 0 = dktX6_tides_0 := by decide +kernel
theorem dksX6_tides_1 : cX6_tides.data.toList.drop 24 = dktX6_tides_1 := dk_seg dksX6_tides_0 24 rfl rfl
theorem dksX6_tides_2 : cX6_tides.data.toList.drop 48 = dktX6_tides_2 := dk_seg dksX6_tides_1 24 rfl rfl
theorem dksX6_tides_3 : cX6_tides.data.toList.drop 71 = dktX6_tides_3 := dk_seg dksX6_tides_2 23 rfl rfl
theorem dksX6_tides_4 : cX6_tides.data.toList.drop 95 = dktX6_tides_4 := dk_seg dksX6_tides_3 24 rfl rfl
theorem dksX6_tides_5 : cX6_tides.data.toList.drop 117 = dktX6_tides_5 := dk_seg dksX6_tides_4 22 rfl rfl
theorem dksX6_tides_6 : cX6_tides.data.toList.drop 141 = dktX6_tides_6 := dk_seg dksX6_tides_5 24 rfl rfl
theorem dksX6_tides_7 : cX6_tides.data.toList.drop 163 = dktX6_tides_7 := dk_seg dksX6_tides_6 22 rfl rfl
theorem dksX6_tides_8 : cX6_tides.data.toList.drop 187 = dktX6_tides_8 := dk_seg dksX6_tides_7 24 rfl rfl
theorem dX6_tides_0 : decode cX6_tides 0 = .ok (.iload_n 1, 1) := dk_27 (dk_at dksX6_tides_0 0 rfl rfl)
theorem dX6_tides_1 : decode cX6_tides 1 = .ok (.i2l, 1) := dk_133 (dk_at dksX6_tides_0 1 rfl rfl)
theorem dX6_tides_2 : decode cX6_tides 2 = .ok (.lconst 0, 1) := dk_9 (dk_at dksX6_tides_0 2 rfl rfl)
theorem dX6_tides_3 : decode cX6_tides 3 = .ok (.ldc2_w 400, 3) := dk_20 1 144 (dk_at dksX6_tides_0 3 rfl rfl)
theorem dX6_tides_6 : decode cX6_tides 6 = .ok (.invokestatic 256, 3) := dk_184 1 0 (dk_at dksX6_tides_0 6 rfl rfl)
theorem dX6_tides_9 : decode cX6_tides 9 = .ok (.ifCond .eq 15, 3) := dk_153 0 15 (dk_at dksX6_tides_0 9 rfl rfl)
theorem dX6_tides_12 : decode cX6_tides 12 = .ok (.iload_n 2, 1) := dk_28 (dk_at dksX6_tides_0 12 rfl rfl)
theorem dX6_tides_13 : decode cX6_tides 13 = .ok (.i2l, 1) := dk_133 (dk_at dksX6_tides_0 13 rfl rfl)
theorem dX6_tides_14 : decode cX6_tides 14 = .ok (.lconst 0, 1) := dk_9 (dk_at dksX6_tides_0 14 rfl rfl)
theorem dX6_tides_15 : decode cX6_tides 15 = .ok (.ldc2_w 400, 3) := dk_20 1 144 (dk_at dksX6_tides_0 15 rfl rfl)
theorem dX6_tides_18 : decode cX6_tides 18 = .ok (.invokestatic 256, 3) := dk_184 1 0 (dk_at dksX6_tides_0 18 rfl rfl)
theorem dX6_tides_21 : decode cX6_tides 21 = .ok (.ifCond .ne 9, 3) := dk_154 0 9 (dk_at dksX6_tides_0 21 rfl rfl)
theorem dX6_tides_24 : decode cX6_tides 24 = .ok (.aload_n 0, 1) := dk_42 (dk_at dksX6_tides_1 0 rfl rfl)
theorem dX6_tides_25 : decode cX6_tides 25 = .ok (.iconst 1, 1) := dk_4 (dk_at dksX6_tides_1 1 rfl rfl)
theorem dX6_tides_26 : decode cX6_tides 26 = .ok (.invokevirtual 85, 3) := dk_182 0 85 (dk_at dksX6_tides_1 2 rfl rfl)
theorem dX6_tides_29 : decode cX6_tides 29 = .ok (.ireturn, 1) := dk_172 (dk_at dksX6_tides_1 5 rfl rfl)
theorem dX6_tides_30 : decode cX6_tides 30 = .ok (.lconst 1, 1) := dk_10 (dk_at dksX6_tides_1 6 rfl rfl)
theorem dX6_tides_31 : decode cX6_tides 31 = .ok (.lstore_n 3, 1) := dk_66 (dk_at dksX6_tides_1 7 rfl rfl)
theorem dX6_tides_32 : decode cX6_tides 32 = .ok (.iconst 0, 1) := dk_3 (dk_at dksX6_tides_1 8 rfl rfl)
theorem dX6_tides_33 : decode cX6_tides 33 = .ok (.istore 5, 2) := dk_54 5 (dk_at dksX6_tides_1 9 rfl rfl)
theorem dX6_tides_35 : decode cX6_tides 35 = .ok (.iload 5, 2) := dk_21 5 (dk_at dksX6_tides_1 11 rfl rfl)
theorem dX6_tides_37 : decode cX6_tides 37 = .ok (.bipush 13, 2) := dk_16 13 (dk_at dksX6_tides_1 13 rfl rfl)
theorem dX6_tides_39 : decode cX6_tides 39 = .ok (.if_icmp .ge 26, 3) := dk_162 0 26 (dk_at dksX6_tides_1 15 rfl rfl)
theorem dX6_tides_42 : decode cX6_tides 42 = .ok (.aload_n 0, 1) := dk_42 (dk_at dksX6_tides_1 18 rfl rfl)
theorem dX6_tides_43 : decode cX6_tides 43 = .ok (.getfield 56, 3) := dk_180 0 56 (dk_at dksX6_tides_1 19 rfl rfl)
theorem dX6_tides_46 : decode cX6_tides 46 = .ok (.iload 5, 2) := dk_21 5 (dk_at dksX6_tides_1 22 rfl rfl)
theorem dX6_tides_48 : decode cX6_tides 48 = .ok (.iload 5, 2) := dk_21 5 (dk_at dksX6_tides_2 0 rfl rfl)
theorem dX6_tides_50 : decode cX6_tides 50 = .ok (.ifCond .ne 7, 3) := dk_154 0 7 (dk_at dksX6_tides_2 2 rfl rfl)
theorem dX6_tides_53 : decode cX6_tides 53 = .ok (.lconst 1, 1) := dk_10 (dk_at dksX6_tides_2 5 rfl rfl)
theorem dX6_tides_54 : decode cX6_tides 54 = .ok (.goto 4, 3) := dk_167 0 4 (dk_at dksX6_tides_2 6 rfl rfl)
theorem dX6_tides_57 : decode cX6_tides 57 = .ok (.lconst 0, 1) := dk_9 (dk_at dksX6_tides_2 9 rfl rfl)
theorem dX6_tides_58 : decode cX6_tides 58 = .ok (.lastore, 1) := dk_80 (dk_at dksX6_tides_2 10 rfl rfl)
theorem dX6_tides_59 : decode cX6_tides 59 = .ok (.iinc 5 1, 3) := dk_132 5 1 (dk_at dksX6_tides_2 11 rfl rfl)
theorem dX6_tides_62 : decode cX6_tides 62 = .ok (.goto (-27), 3) := dk_167 255 229 (dk_at dksX6_tides_2 14 rfl rfl)
theorem dX6_tides_65 : decode cX6_tides 65 = .ok (.iconst 0, 1) := dk_3 (dk_at dksX6_tides_2 17 rfl rfl)
theorem dX6_tides_66 : decode cX6_tides 66 = .ok (.istore 5, 2) := dk_54 5 (dk_at dksX6_tides_2 18 rfl rfl)
theorem dX6_tides_68 : decode cX6_tides 68 = .ok (.iload 5, 2) := dk_21 5 (dk_at dksX6_tides_2 20 rfl rfl)
theorem dX6_tides_70 : decode cX6_tides 70 = .ok (.iload_n 1, 1) := dk_27 (dk_at dksX6_tides_2 22 rfl rfl)
theorem dX6_tides_71 : decode cX6_tides 71 = .ok (.if_icmp .ge 82, 3) := dk_162 0 82 (dk_at dksX6_tides_3 0 rfl rfl)
theorem dX6_tides_74 : decode cX6_tides 74 = .ok (.bipush 12, 2) := dk_16 12 (dk_at dksX6_tides_3 3 rfl rfl)
theorem dX6_tides_76 : decode cX6_tides 76 = .ok (.istore 6, 2) := dk_54 6 (dk_at dksX6_tides_3 5 rfl rfl)
theorem dX6_tides_78 : decode cX6_tides 78 = .ok (.iload 6, 2) := dk_21 6 (dk_at dksX6_tides_3 7 rfl rfl)
theorem dX6_tides_80 : decode cX6_tides 80 = .ok (.ifCond .lt 61, 3) := dk_155 0 61 (dk_at dksX6_tides_3 9 rfl rfl)
theorem dX6_tides_83 : decode cX6_tides 83 = .ok (.aload_n 0, 1) := dk_42 (dk_at dksX6_tides_3 12 rfl rfl)
theorem dX6_tides_84 : decode cX6_tides 84 = .ok (.getfield 56, 3) := dk_180 0 56 (dk_at dksX6_tides_3 13 rfl rfl)
theorem dX6_tides_87 : decode cX6_tides 87 = .ok (.iload 6, 2) := dk_21 6 (dk_at dksX6_tides_3 16 rfl rfl)
theorem dX6_tides_89 : decode cX6_tides 89 = .ok (.aload_n 0, 1) := dk_42 (dk_at dksX6_tides_3 18 rfl rfl)
theorem dX6_tides_90 : decode cX6_tides 90 = .ok (.getfield 56, 3) := dk_180 0 56 (dk_at dksX6_tides_3 19 rfl rfl)
theorem dX6_tides_93 : decode cX6_tides 93 = .ok (.iload 6, 2) := dk_21 6 (dk_at dksX6_tides_3 22 rfl rfl)
theorem dX6_tides_95 : decode cX6_tides 95 = .ok (.laload, 1) := dk_47 (dk_at dksX6_tides_4 0 rfl rfl)
theorem dX6_tides_96 : decode cX6_tides 96 = .ok (.bipush 16, 2) := dk_16 16 (dk_at dksX6_tides_4 1 rfl rfl)
theorem dX6_tides_98 : decode cX6_tides 98 = .ok (.aload_n 0, 1) := dk_42 (dk_at dksX6_tides_4 3 rfl rfl)
theorem dX6_tides_99 : decode cX6_tides 99 = .ok (.getfield 7, 3) := dk_180 0 7 (dk_at dksX6_tides_4 4 rfl rfl)
theorem dX6_tides_102 : decode cX6_tides 102 = .ok (.iconst 4, 1) := dk_7 (dk_at dksX6_tides_4 7 rfl rfl)
theorem dX6_tides_103 : decode cX6_tides 103 = .ok (.iaload, 1) := dk_46 (dk_at dksX6_tides_4 8 rfl rfl)
theorem dX6_tides_104 : decode cX6_tides 104 = .ok (.isub, 1) := dk_100 (dk_at dksX6_tides_4 9 rfl rfl)
theorem dX6_tides_105 : decode cX6_tides 105 = .ok (.i2l, 1) := dk_133 (dk_at dksX6_tides_4 10 rfl rfl)
theorem dX6_tides_106 : decode cX6_tides 106 = .ok (.lmul, 1) := dk_105 (dk_at dksX6_tides_4 11 rfl rfl)
theorem dX6_tides_107 : decode cX6_tides 107 = .ok (.iload 6, 2) := dk_21 6 (dk_at dksX6_tides_4 12 rfl rfl)
theorem dX6_tides_109 : decode cX6_tides 109 = .ok (.ifCond .ne 7, 3) := dk_154 0 7 (dk_at dksX6_tides_4 14 rfl rfl)
theorem dX6_tides_112 : decode cX6_tides 112 = .ok (.lconst 0, 1) := dk_9 (dk_at dksX6_tides_4 17 rfl rfl)
theorem dX6_tides_113 : decode cX6_tides 113 = .ok (.goto 20, 3) := dk_167 0 20 (dk_at dksX6_tides_4 18 rfl rfl)
theorem dX6_tides_116 : decode cX6_tides 116 = .ok (.aload_n 0, 1) := dk_42 (dk_at dksX6_tides_4 21 rfl rfl)
theorem dX6_tides_117 : decode cX6_tides 117 = .ok (.getfield 56, 3) := dk_180 0 56 (dk_at dksX6_tides_5 0 rfl rfl)
theorem dX6_tides_120 : decode cX6_tides 120 = .ok (.iload 6, 2) := dk_21 6 (dk_at dksX6_tides_5 3 rfl rfl)
theorem dX6_tides_122 : decode cX6_tides 122 = .ok (.iconst 1, 1) := dk_4 (dk_at dksX6_tides_5 5 rfl rfl)
theorem dX6_tides_123 : decode cX6_tides 123 = .ok (.isub, 1) := dk_100 (dk_at dksX6_tides_5 6 rfl rfl)
theorem dX6_tides_124 : decode cX6_tides 124 = .ok (.laload, 1) := dk_47 (dk_at dksX6_tides_5 7 rfl rfl)
theorem dX6_tides_125 : decode cX6_tides 125 = .ok (.aload_n 0, 1) := dk_42 (dk_at dksX6_tides_5 8 rfl rfl)
theorem dX6_tides_126 : decode cX6_tides 126 = .ok (.getfield 7, 3) := dk_180 0 7 (dk_at dksX6_tides_5 9 rfl rfl)
theorem dX6_tides_129 : decode cX6_tides 129 = .ok (.iconst 4, 1) := dk_7 (dk_at dksX6_tides_5 12 rfl rfl)
theorem dX6_tides_130 : decode cX6_tides 130 = .ok (.iaload, 1) := dk_46 (dk_at dksX6_tides_5 13 rfl rfl)
theorem dX6_tides_131 : decode cX6_tides 131 = .ok (.i2l, 1) := dk_133 (dk_at dksX6_tides_5 14 rfl rfl)
theorem dX6_tides_132 : decode cX6_tides 132 = .ok (.lmul, 1) := dk_105 (dk_at dksX6_tides_5 15 rfl rfl)
theorem dX6_tides_133 : decode cX6_tides 133 = .ok (.ladd, 1) := dk_97 (dk_at dksX6_tides_5 16 rfl rfl)
theorem dX6_tides_134 : decode cX6_tides 134 = .ok (.lastore, 1) := dk_80 (dk_at dksX6_tides_5 17 rfl rfl)
theorem dX6_tides_135 : decode cX6_tides 135 = .ok (.iinc 6 (-1), 3) := dk_132 6 255 (dk_at dksX6_tides_5 18 rfl rfl)
theorem dX6_tides_138 : decode cX6_tides 138 = .ok (.goto (-60), 3) := dk_167 255 196 (dk_at dksX6_tides_5 21 rfl rfl)
theorem dX6_tides_141 : decode cX6_tides 141 = .ok (.lload_n 3, 1) := dk_33 (dk_at dksX6_tides_6 0 rfl rfl)
theorem dX6_tides_142 : decode cX6_tides 142 = .ok (.ldc2_w 333, 3) := dk_20 1 77 (dk_at dksX6_tides_6 1 rfl rfl)
theorem dX6_tides_145 : decode cX6_tides 145 = .ok (.lmul, 1) := dk_105 (dk_at dksX6_tides_6 4 rfl rfl)
theorem dX6_tides_146 : decode cX6_tides 146 = .ok (.lstore_n 3, 1) := dk_66 (dk_at dksX6_tides_6 5 rfl rfl)
theorem dX6_tides_147 : decode cX6_tides 147 = .ok (.iinc 5 1, 3) := dk_132 5 1 (dk_at dksX6_tides_6 6 rfl rfl)
theorem dX6_tides_150 : decode cX6_tides 150 = .ok (.goto (-82), 3) := dk_167 255 174 (dk_at dksX6_tides_6 9 rfl rfl)
theorem dX6_tides_153 : decode cX6_tides 153 = .ok (.lconst 0, 1) := dk_9 (dk_at dksX6_tides_6 12 rfl rfl)
theorem dX6_tides_154 : decode cX6_tides 154 = .ok (.lstore 5, 2) := dk_55 5 (dk_at dksX6_tides_6 13 rfl rfl)
theorem dX6_tides_156 : decode cX6_tides 156 = .ok (.iload_n 2, 1) := dk_28 (dk_at dksX6_tides_6 15 rfl rfl)
theorem dX6_tides_157 : decode cX6_tides 157 = .ok (.istore 7, 2) := dk_54 7 (dk_at dksX6_tides_6 16 rfl rfl)
theorem dX6_tides_159 : decode cX6_tides 159 = .ok (.iload 7, 2) := dk_21 7 (dk_at dksX6_tides_6 18 rfl rfl)
theorem dX6_tides_161 : decode cX6_tides 161 = .ok (.bipush 13, 2) := dk_16 13 (dk_at dksX6_tides_6 20 rfl rfl)
theorem dX6_tides_163 : decode cX6_tides 163 = .ok (.if_icmp .ge 21, 3) := dk_162 0 21 (dk_at dksX6_tides_7 0 rfl rfl)
theorem dX6_tides_166 : decode cX6_tides 166 = .ok (.lload 5, 2) := dk_22 5 (dk_at dksX6_tides_7 3 rfl rfl)
theorem dX6_tides_168 : decode cX6_tides 168 = .ok (.aload_n 0, 1) := dk_42 (dk_at dksX6_tides_7 5 rfl rfl)
theorem dX6_tides_169 : decode cX6_tides 169 = .ok (.getfield 56, 3) := dk_180 0 56 (dk_at dksX6_tides_7 6 rfl rfl)
theorem dX6_tides_172 : decode cX6_tides 172 = .ok (.iload 7, 2) := dk_21 7 (dk_at dksX6_tides_7 9 rfl rfl)
theorem dX6_tides_174 : decode cX6_tides 174 = .ok (.laload, 1) := dk_47 (dk_at dksX6_tides_7 11 rfl rfl)
theorem dX6_tides_175 : decode cX6_tides 175 = .ok (.ladd, 1) := dk_97 (dk_at dksX6_tides_7 12 rfl rfl)
theorem dX6_tides_176 : decode cX6_tides 176 = .ok (.lstore 5, 2) := dk_55 5 (dk_at dksX6_tides_7 13 rfl rfl)
theorem dX6_tides_178 : decode cX6_tides 178 = .ok (.iinc 7 1, 3) := dk_132 7 1 (dk_at dksX6_tides_7 15 rfl rfl)
theorem dX6_tides_181 : decode cX6_tides 181 = .ok (.goto (-22), 3) := dk_167 255 234 (dk_at dksX6_tides_7 18 rfl rfl)
theorem dX6_tides_184 : decode cX6_tides 184 = .ok (.aload_n 0, 1) := dk_42 (dk_at dksX6_tides_7 21 rfl rfl)
theorem dX6_tides_185 : decode cX6_tides 185 = .ok (.lload 5, 2) := dk_22 5 (dk_at dksX6_tides_7 22 rfl rfl)
theorem dX6_tides_187 : decode cX6_tides 187 = .ok (.lload_n 3, 1) := dk_33 (dk_at dksX6_tides_8 0 rfl rfl)
theorem dX6_tides_188 : decode cX6_tides 188 = .ok (.invokevirtual 402, 3) := dk_182 1 146 (dk_at dksX6_tides_8 1 rfl rfl)
theorem dX6_tides_191 : decode cX6_tides 191 = .ok (.ireturn, 1) := dk_172 (dk_at dksX6_tides_8 4 rfl rfl)
abbrev cX6_tellsBy : ByteArray := prog_15_method_10_code
def yX6_tellsBy : MethodName := ⟨RX6, "tellsBy", "(JJ)Z"⟩
def dkwX6_tellsBy_2 : List UInt8 := [3, 182, 0, 85, 172]
abbrev dktX6_tellsBy_2 : List UInt8 := dkwX6_tellsBy_2 ++ []
def dkwX6_tellsBy_1 : List UInt8 := [22, 9, 55, 7, 167, 255, 234, 42, 31, 22, 5, 109, 181, 0, 75, 42, 33, 22, 5, 109, 181, 0, 17, 42]
abbrev dktX6_tellsBy_1 : List UInt8 := dkwX6_tellsBy_1 ++ dktX6_tellsBy_2
def dkwX6_tellsBy_0 : List UInt8 := [31, 55, 5, 33, 55, 7, 22, 7, 9, 148, 153, 0, 21, 22, 5, 22, 7, 113, 55, 9, 22, 7, 55, 5]
abbrev dktX6_tellsBy_0 : List UInt8 := dkwX6_tellsBy_0 ++ dktX6_tellsBy_1
theorem dksX6_tellsBy_0 : cX6_tellsBy.data.toList.drop 0 = dktX6_tellsBy_0 := by decide +kernel
theorem dksX6_tellsBy_1 : cX6_tellsBy.data.toList.drop 24 = dktX6_tellsBy_1 := dk_seg dksX6_tellsBy_0 24 rfl rfl
theorem dksX6_tellsBy_2 : cX6_tellsBy.data.toList.drop 48 = dktX6_tellsBy_2 := dk_seg dksX6_tellsBy_1 24 rfl rfl
theorem dX6_tellsBy_0 : decode cX6_tellsBy 0 = .ok (.lload_n 1, 1) := dk_31 (dk_at dksX6_tellsBy_0 0 rfl rfl)
theorem dX6_tellsBy_1 : decode cX6_tellsBy 1 = .ok (.lstore 5, 2) := dk_55 5 (dk_at dksX6_tellsBy_0 1 rfl rfl)
theorem dX6_tellsBy_3 : decode cX6_tellsBy 3 = .ok (.lload_n 3, 1) := dk_33 (dk_at dksX6_tellsBy_0 3 rfl rfl)
theorem dX6_tellsBy_4 : decode cX6_tellsBy 4 = .ok (.lstore 7, 2) := dk_55 7 (dk_at dksX6_tellsBy_0 4 rfl rfl)
theorem dX6_tellsBy_6 : decode cX6_tellsBy 6 = .ok (.lload 7, 2) := dk_22 7 (dk_at dksX6_tellsBy_0 6 rfl rfl)
theorem dX6_tellsBy_8 : decode cX6_tellsBy 8 = .ok (.lconst 0, 1) := dk_9 (dk_at dksX6_tellsBy_0 8 rfl rfl)
theorem dX6_tellsBy_9 : decode cX6_tellsBy 9 = .ok (.lcmp, 1) := dk_148 (dk_at dksX6_tellsBy_0 9 rfl rfl)
theorem dX6_tellsBy_10 : decode cX6_tellsBy 10 = .ok (.ifCond .eq 21, 3) := dk_153 0 21 (dk_at dksX6_tellsBy_0 10 rfl rfl)
theorem dX6_tellsBy_13 : decode cX6_tellsBy 13 = .ok (.lload 5, 2) := dk_22 5 (dk_at dksX6_tellsBy_0 13 rfl rfl)
theorem dX6_tellsBy_15 : decode cX6_tellsBy 15 = .ok (.lload 7, 2) := dk_22 7 (dk_at dksX6_tellsBy_0 15 rfl rfl)
theorem dX6_tellsBy_17 : decode cX6_tellsBy 17 = .ok (.lrem, 1) := dk_113 (dk_at dksX6_tellsBy_0 17 rfl rfl)
theorem dX6_tellsBy_18 : decode cX6_tellsBy 18 = .ok (.lstore 9, 2) := dk_55 9 (dk_at dksX6_tellsBy_0 18 rfl rfl)
theorem dX6_tellsBy_20 : decode cX6_tellsBy 20 = .ok (.lload 7, 2) := dk_22 7 (dk_at dksX6_tellsBy_0 20 rfl rfl)
theorem dX6_tellsBy_22 : decode cX6_tellsBy 22 = .ok (.lstore 5, 2) := dk_55 5 (dk_at dksX6_tellsBy_0 22 rfl rfl)
theorem dX6_tellsBy_24 : decode cX6_tellsBy 24 = .ok (.lload 9, 2) := dk_22 9 (dk_at dksX6_tellsBy_1 0 rfl rfl)
theorem dX6_tellsBy_26 : decode cX6_tellsBy 26 = .ok (.lstore 7, 2) := dk_55 7 (dk_at dksX6_tellsBy_1 2 rfl rfl)
theorem dX6_tellsBy_28 : decode cX6_tellsBy 28 = .ok (.goto (-22), 3) := dk_167 255 234 (dk_at dksX6_tellsBy_1 4 rfl rfl)
theorem dX6_tellsBy_31 : decode cX6_tellsBy 31 = .ok (.aload_n 0, 1) := dk_42 (dk_at dksX6_tellsBy_1 7 rfl rfl)
theorem dX6_tellsBy_32 : decode cX6_tellsBy 32 = .ok (.lload_n 1, 1) := dk_31 (dk_at dksX6_tellsBy_1 8 rfl rfl)
theorem dX6_tellsBy_33 : decode cX6_tellsBy 33 = .ok (.lload 5, 2) := dk_22 5 (dk_at dksX6_tellsBy_1 9 rfl rfl)
theorem dX6_tellsBy_35 : decode cX6_tellsBy 35 = .ok (.ldiv, 1) := dk_109 (dk_at dksX6_tellsBy_1 11 rfl rfl)
theorem dX6_tellsBy_36 : decode cX6_tellsBy 36 = .ok (.putfield 75, 3) := dk_181 0 75 (dk_at dksX6_tellsBy_1 12 rfl rfl)
theorem dX6_tellsBy_39 : decode cX6_tellsBy 39 = .ok (.aload_n 0, 1) := dk_42 (dk_at dksX6_tellsBy_1 15 rfl rfl)
theorem dX6_tellsBy_40 : decode cX6_tellsBy 40 = .ok (.lload_n 3, 1) := dk_33 (dk_at dksX6_tellsBy_1 16 rfl rfl)
theorem dX6_tellsBy_41 : decode cX6_tellsBy 41 = .ok (.lload 5, 2) := dk_22 5 (dk_at dksX6_tellsBy_1 17 rfl rfl)
theorem dX6_tellsBy_43 : decode cX6_tellsBy 43 = .ok (.ldiv, 1) := dk_109 (dk_at dksX6_tellsBy_1 19 rfl rfl)
theorem dX6_tellsBy_44 : decode cX6_tellsBy 44 = .ok (.putfield 17, 3) := dk_181 0 17 (dk_at dksX6_tellsBy_1 20 rfl rfl)
theorem dX6_tellsBy_47 : decode cX6_tellsBy 47 = .ok (.aload_n 0, 1) := dk_42 (dk_at dksX6_tellsBy_1 23 rfl rfl)
theorem dX6_tellsBy_48 : decode cX6_tellsBy 48 = .ok (.iconst 0, 1) := dk_3 (dk_at dksX6_tellsBy_2 0 rfl rfl)
theorem dX6_tellsBy_49 : decode cX6_tellsBy 49 = .ok (.invokevirtual 85, 3) := dk_182 0 85 (dk_at dksX6_tellsBy_2 1 rfl rfl)
theorem dX6_tellsBy_52 : decode cX6_tellsBy 52 = .ok (.ireturn, 1) := dk_172 (dk_at dksX6_tellsBy_2 4 rfl rfl)
abbrev cX6_sloth : ByteArray := prog_15_method_133_code
def yX6_sloth : MethodName := ⟨RX6, "sloth", "(I)Z"⟩
def dkwX6_sloth_2 : List UInt8 := [182, 1, 146, 172]
abbrev dktX6_sloth_2 : List UInt8 := dkwX6_sloth_2 ++ []
def dkwX6_sloth_1 : List UInt8 := [16, 6, 182, 0, 85, 167, 0, 21, 42, 42, 27, 4, 182, 1, 10, 133, 42, 180, 0, 7, 8, 46, 133]
abbrev dktX6_sloth_1 : List UInt8 := dkwX6_sloth_1 ++ dktX6_sloth_2
def dkwX6_sloth_0 : List UInt8 := [42, 27, 182, 1, 34, 154, 0, 9, 42, 4, 182, 0, 85, 172, 42, 180, 0, 7, 8, 46, 154, 0, 12, 42]
abbrev dktX6_sloth_0 : List UInt8 := dkwX6_sloth_0 ++ dktX6_sloth_1
theorem dksX6_sloth_0 : cX6_sloth.data.toList.drop 0 = dktX6_sloth_0 := by decide +kernel
theorem dksX6_sloth_1 : cX6_sloth.data.toList.drop 24 = dktX6_sloth_1 := dk_seg dksX6_sloth_0 24 rfl rfl
theorem dksX6_sloth_2 : cX6_sloth.data.toList.drop 47 = dktX6_sloth_2 := dk_seg dksX6_sloth_1 23 rfl rfl
theorem dX6_sloth_0 : decode cX6_sloth 0 = .ok (.aload_n 0, 1) := dk_42 (dk_at dksX6_sloth_0 0 rfl rfl)
theorem dX6_sloth_1 : decode cX6_sloth 1 = .ok (.iload_n 1, 1) := dk_27 (dk_at dksX6_sloth_0 1 rfl rfl)
theorem dX6_sloth_2 : decode cX6_sloth 2 = .ok (.invokevirtual 290, 3) := dk_182 1 34 (dk_at dksX6_sloth_0 2 rfl rfl)
theorem dX6_sloth_5 : decode cX6_sloth 5 = .ok (.ifCond .ne 9, 3) := dk_154 0 9 (dk_at dksX6_sloth_0 5 rfl rfl)
theorem dX6_sloth_8 : decode cX6_sloth 8 = .ok (.aload_n 0, 1) := dk_42 (dk_at dksX6_sloth_0 8 rfl rfl)
theorem dX6_sloth_9 : decode cX6_sloth 9 = .ok (.iconst 1, 1) := dk_4 (dk_at dksX6_sloth_0 9 rfl rfl)
theorem dX6_sloth_10 : decode cX6_sloth 10 = .ok (.invokevirtual 85, 3) := dk_182 0 85 (dk_at dksX6_sloth_0 10 rfl rfl)
theorem dX6_sloth_13 : decode cX6_sloth 13 = .ok (.ireturn, 1) := dk_172 (dk_at dksX6_sloth_0 13 rfl rfl)
theorem dX6_sloth_14 : decode cX6_sloth 14 = .ok (.aload_n 0, 1) := dk_42 (dk_at dksX6_sloth_0 14 rfl rfl)
theorem dX6_sloth_15 : decode cX6_sloth 15 = .ok (.getfield 7, 3) := dk_180 0 7 (dk_at dksX6_sloth_0 15 rfl rfl)
theorem dX6_sloth_18 : decode cX6_sloth 18 = .ok (.iconst 5, 1) := dk_8 (dk_at dksX6_sloth_0 18 rfl rfl)
theorem dX6_sloth_19 : decode cX6_sloth 19 = .ok (.iaload, 1) := dk_46 (dk_at dksX6_sloth_0 19 rfl rfl)
theorem dX6_sloth_20 : decode cX6_sloth 20 = .ok (.ifCond .ne 12, 3) := dk_154 0 12 (dk_at dksX6_sloth_0 20 rfl rfl)
theorem dX6_sloth_23 : decode cX6_sloth 23 = .ok (.aload_n 0, 1) := dk_42 (dk_at dksX6_sloth_0 23 rfl rfl)
theorem dX6_sloth_24 : decode cX6_sloth 24 = .ok (.bipush 6, 2) := dk_16 6 (dk_at dksX6_sloth_1 0 rfl rfl)
theorem dX6_sloth_26 : decode cX6_sloth 26 = .ok (.invokevirtual 85, 3) := dk_182 0 85 (dk_at dksX6_sloth_1 2 rfl rfl)
theorem dX6_sloth_29 : decode cX6_sloth 29 = .ok (.goto 21, 3) := dk_167 0 21 (dk_at dksX6_sloth_1 5 rfl rfl)
theorem dX6_sloth_32 : decode cX6_sloth 32 = .ok (.aload_n 0, 1) := dk_42 (dk_at dksX6_sloth_1 8 rfl rfl)
theorem dX6_sloth_33 : decode cX6_sloth 33 = .ok (.aload_n 0, 1) := dk_42 (dk_at dksX6_sloth_1 9 rfl rfl)
theorem dX6_sloth_34 : decode cX6_sloth 34 = .ok (.iload_n 1, 1) := dk_27 (dk_at dksX6_sloth_1 10 rfl rfl)
theorem dX6_sloth_35 : decode cX6_sloth 35 = .ok (.iconst 1, 1) := dk_4 (dk_at dksX6_sloth_1 11 rfl rfl)
theorem dX6_sloth_36 : decode cX6_sloth 36 = .ok (.invokevirtual 266, 3) := dk_182 1 10 (dk_at dksX6_sloth_1 12 rfl rfl)
theorem dX6_sloth_39 : decode cX6_sloth 39 = .ok (.i2l, 1) := dk_133 (dk_at dksX6_sloth_1 15 rfl rfl)
theorem dX6_sloth_40 : decode cX6_sloth 40 = .ok (.aload_n 0, 1) := dk_42 (dk_at dksX6_sloth_1 16 rfl rfl)
theorem dX6_sloth_41 : decode cX6_sloth 41 = .ok (.getfield 7, 3) := dk_180 0 7 (dk_at dksX6_sloth_1 17 rfl rfl)
theorem dX6_sloth_44 : decode cX6_sloth 44 = .ok (.iconst 5, 1) := dk_8 (dk_at dksX6_sloth_1 20 rfl rfl)
theorem dX6_sloth_45 : decode cX6_sloth 45 = .ok (.iaload, 1) := dk_46 (dk_at dksX6_sloth_1 21 rfl rfl)
theorem dX6_sloth_46 : decode cX6_sloth 46 = .ok (.i2l, 1) := dk_133 (dk_at dksX6_sloth_1 22 rfl rfl)
theorem dX6_sloth_47 : decode cX6_sloth 47 = .ok (.invokevirtual 402, 3) := dk_182 1 146 (dk_at dksX6_sloth_2 0 rfl rfl)
theorem dX6_sloth_50 : decode cX6_sloth 50 = .ok (.ireturn, 1) := dk_172 (dk_at dksX6_sloth_2 3 rfl rfl)
abbrev cX6_copyHolds : ByteArray := prog_15_method_134_code
def yX6_copyHolds : MethodName := ⟨RX6, "copyHolds", "(I)I"⟩
def dkwX6_copyHolds_4 : List UInt8 := [167, 255, 216, 42, 42, 180, 0, 7, 4, 46, 182, 0, 82, 172]
abbrev dktX6_copyHolds_4 : List UInt8 := dkwX6_copyHolds_4 ++ []
def dkwX6_copyHolds_3 : List UInt8 := [28, 96, 42, 28, 3, 182, 1, 10, 133, 42, 180, 0, 21, 27, 46, 184, 0, 96, 80, 132, 2, 1]
abbrev dktX6_copyHolds_3 : List UInt8 := dkwX6_copyHolds_3 ++ dktX6_copyHolds_4
def dkwX6_copyHolds_2 : List UInt8 := [182, 0, 78, 172, 3, 61, 28, 42, 180, 0, 7, 4, 46, 162, 0, 36, 42, 180, 0, 27, 16, 60, 27, 104]
abbrev dktX6_copyHolds_2 : List UInt8 := dkwX6_copyHolds_2 ++ dktX6_copyHolds_3
def dkwX6_copyHolds_1 : List UInt8 := [5, 182, 0, 78, 172, 42, 180, 0, 24, 27, 46, 42, 180, 0, 7, 4, 46, 162, 0, 9, 42, 6]
abbrev dktX6_copyHolds_1 : List UInt8 := dkwX6_copyHolds_1 ++ dktX6_copyHolds_2
def dkwX6_copyHolds_0 : List UInt8 := [27, 184, 0, 89, 154, 0, 9, 42, 4, 182, 0, 78, 172, 42, 180, 0, 24, 27, 46, 2, 160, 0, 9, 42]
abbrev dktX6_copyHolds_0 : List UInt8 := dkwX6_copyHolds_0 ++ dktX6_copyHolds_1
theorem dksX6_copyHolds_0 : cX6_copyHolds.data.toList.drop 0 = dktX6_copyHolds_0 := by decide +kernel
theorem dksX6_copyHolds_1 : cX6_copyHolds.data.toList.drop 24 = dktX6_copyHolds_1 := dk_seg dksX6_copyHolds_0 24 rfl rfl
theorem dksX6_copyHolds_2 : cX6_copyHolds.data.toList.drop 46 = dktX6_copyHolds_2 := dk_seg dksX6_copyHolds_1 22 rfl rfl
theorem dksX6_copyHolds_3 : cX6_copyHolds.data.toList.drop 70 = dktX6_copyHolds_3 := dk_seg dksX6_copyHolds_2 24 rfl rfl
theorem dksX6_copyHolds_4 : cX6_copyHolds.data.toList.drop 92 = dktX6_copyHolds_4 := dk_seg dksX6_copyHolds_3 22 rfl rfl
theorem dX6_copyHolds_0 : decode cX6_copyHolds 0 = .ok (.iload_n 1, 1) := dk_27 (dk_at dksX6_copyHolds_0 0 rfl rfl)
theorem dX6_copyHolds_1 : decode cX6_copyHolds 1 = .ok (.invokestatic 89, 3) := dk_184 0 89 (dk_at dksX6_copyHolds_0 1 rfl rfl)
theorem dX6_copyHolds_4 : decode cX6_copyHolds 4 = .ok (.ifCond .ne 9, 3) := dk_154 0 9 (dk_at dksX6_copyHolds_0 4 rfl rfl)
theorem dX6_copyHolds_7 : decode cX6_copyHolds 7 = .ok (.aload_n 0, 1) := dk_42 (dk_at dksX6_copyHolds_0 7 rfl rfl)
theorem dX6_copyHolds_8 : decode cX6_copyHolds 8 = .ok (.iconst 1, 1) := dk_4 (dk_at dksX6_copyHolds_0 8 rfl rfl)
theorem dX6_copyHolds_9 : decode cX6_copyHolds 9 = .ok (.invokevirtual 78, 3) := dk_182 0 78 (dk_at dksX6_copyHolds_0 9 rfl rfl)
theorem dX6_copyHolds_12 : decode cX6_copyHolds 12 = .ok (.ireturn, 1) := dk_172 (dk_at dksX6_copyHolds_0 12 rfl rfl)
theorem dX6_copyHolds_13 : decode cX6_copyHolds 13 = .ok (.aload_n 0, 1) := dk_42 (dk_at dksX6_copyHolds_0 13 rfl rfl)
theorem dX6_copyHolds_14 : decode cX6_copyHolds 14 = .ok (.getfield 24, 3) := dk_180 0 24 (dk_at dksX6_copyHolds_0 14 rfl rfl)
theorem dX6_copyHolds_17 : decode cX6_copyHolds 17 = .ok (.iload_n 1, 1) := dk_27 (dk_at dksX6_copyHolds_0 17 rfl rfl)
theorem dX6_copyHolds_18 : decode cX6_copyHolds 18 = .ok (.iaload, 1) := dk_46 (dk_at dksX6_copyHolds_0 18 rfl rfl)
theorem dX6_copyHolds_19 : decode cX6_copyHolds 19 = .ok (.iconst (-1), 1) := dk_2 (dk_at dksX6_copyHolds_0 19 rfl rfl)
theorem dX6_copyHolds_20 : decode cX6_copyHolds 20 = .ok (.if_icmp .ne 9, 3) := dk_160 0 9 (dk_at dksX6_copyHolds_0 20 rfl rfl)
theorem dX6_copyHolds_23 : decode cX6_copyHolds 23 = .ok (.aload_n 0, 1) := dk_42 (dk_at dksX6_copyHolds_0 23 rfl rfl)
theorem dX6_copyHolds_24 : decode cX6_copyHolds 24 = .ok (.iconst 2, 1) := dk_5 (dk_at dksX6_copyHolds_1 0 rfl rfl)
theorem dX6_copyHolds_25 : decode cX6_copyHolds 25 = .ok (.invokevirtual 78, 3) := dk_182 0 78 (dk_at dksX6_copyHolds_1 1 rfl rfl)
theorem dX6_copyHolds_28 : decode cX6_copyHolds 28 = .ok (.ireturn, 1) := dk_172 (dk_at dksX6_copyHolds_1 4 rfl rfl)
theorem dX6_copyHolds_29 : decode cX6_copyHolds 29 = .ok (.aload_n 0, 1) := dk_42 (dk_at dksX6_copyHolds_1 5 rfl rfl)
theorem dX6_copyHolds_30 : decode cX6_copyHolds 30 = .ok (.getfield 24, 3) := dk_180 0 24 (dk_at dksX6_copyHolds_1 6 rfl rfl)
theorem dX6_copyHolds_33 : decode cX6_copyHolds 33 = .ok (.iload_n 1, 1) := dk_27 (dk_at dksX6_copyHolds_1 9 rfl rfl)
theorem dX6_copyHolds_34 : decode cX6_copyHolds 34 = .ok (.iaload, 1) := dk_46 (dk_at dksX6_copyHolds_1 10 rfl rfl)
theorem dX6_copyHolds_35 : decode cX6_copyHolds 35 = .ok (.aload_n 0, 1) := dk_42 (dk_at dksX6_copyHolds_1 11 rfl rfl)
theorem dX6_copyHolds_36 : decode cX6_copyHolds 36 = .ok (.getfield 7, 3) := dk_180 0 7 (dk_at dksX6_copyHolds_1 12 rfl rfl)
theorem dX6_copyHolds_39 : decode cX6_copyHolds 39 = .ok (.iconst 1, 1) := dk_4 (dk_at dksX6_copyHolds_1 15 rfl rfl)
theorem dX6_copyHolds_40 : decode cX6_copyHolds 40 = .ok (.iaload, 1) := dk_46 (dk_at dksX6_copyHolds_1 16 rfl rfl)
theorem dX6_copyHolds_41 : decode cX6_copyHolds 41 = .ok (.if_icmp .ge 9, 3) := dk_162 0 9 (dk_at dksX6_copyHolds_1 17 rfl rfl)
theorem dX6_copyHolds_44 : decode cX6_copyHolds 44 = .ok (.aload_n 0, 1) := dk_42 (dk_at dksX6_copyHolds_1 20 rfl rfl)
theorem dX6_copyHolds_45 : decode cX6_copyHolds 45 = .ok (.iconst 3, 1) := dk_6 (dk_at dksX6_copyHolds_1 21 rfl rfl)
theorem dX6_copyHolds_46 : decode cX6_copyHolds 46 = .ok (.invokevirtual 78, 3) := dk_182 0 78 (dk_at dksX6_copyHolds_2 0 rfl rfl)
theorem dX6_copyHolds_49 : decode cX6_copyHolds 49 = .ok (.ireturn, 1) := dk_172 (dk_at dksX6_copyHolds_2 3 rfl rfl)
theorem dX6_copyHolds_50 : decode cX6_copyHolds 50 = .ok (.iconst 0, 1) := dk_3 (dk_at dksX6_copyHolds_2 4 rfl rfl)
theorem dX6_copyHolds_51 : decode cX6_copyHolds 51 = .ok (.istore_n 2, 1) := dk_61 (dk_at dksX6_copyHolds_2 5 rfl rfl)
theorem dX6_copyHolds_52 : decode cX6_copyHolds 52 = .ok (.iload_n 2, 1) := dk_28 (dk_at dksX6_copyHolds_2 6 rfl rfl)
theorem dX6_copyHolds_53 : decode cX6_copyHolds 53 = .ok (.aload_n 0, 1) := dk_42 (dk_at dksX6_copyHolds_2 7 rfl rfl)
theorem dX6_copyHolds_54 : decode cX6_copyHolds 54 = .ok (.getfield 7, 3) := dk_180 0 7 (dk_at dksX6_copyHolds_2 8 rfl rfl)
theorem dX6_copyHolds_57 : decode cX6_copyHolds 57 = .ok (.iconst 1, 1) := dk_4 (dk_at dksX6_copyHolds_2 11 rfl rfl)
theorem dX6_copyHolds_58 : decode cX6_copyHolds 58 = .ok (.iaload, 1) := dk_46 (dk_at dksX6_copyHolds_2 12 rfl rfl)
theorem dX6_copyHolds_59 : decode cX6_copyHolds 59 = .ok (.if_icmp .ge 36, 3) := dk_162 0 36 (dk_at dksX6_copyHolds_2 13 rfl rfl)
theorem dX6_copyHolds_62 : decode cX6_copyHolds 62 = .ok (.aload_n 0, 1) := dk_42 (dk_at dksX6_copyHolds_2 16 rfl rfl)
theorem dX6_copyHolds_63 : decode cX6_copyHolds 63 = .ok (.getfield 27, 3) := dk_180 0 27 (dk_at dksX6_copyHolds_2 17 rfl rfl)
theorem dX6_copyHolds_66 : decode cX6_copyHolds 66 = .ok (.bipush 60, 2) := dk_16 60 (dk_at dksX6_copyHolds_2 20 rfl rfl)
theorem dX6_copyHolds_68 : decode cX6_copyHolds 68 = .ok (.iload_n 1, 1) := dk_27 (dk_at dksX6_copyHolds_2 22 rfl rfl)
theorem dX6_copyHolds_69 : decode cX6_copyHolds 69 = .ok (.imul, 1) := dk_104 (dk_at dksX6_copyHolds_2 23 rfl rfl)
theorem dX6_copyHolds_70 : decode cX6_copyHolds 70 = .ok (.iload_n 2, 1) := dk_28 (dk_at dksX6_copyHolds_3 0 rfl rfl)
theorem dX6_copyHolds_71 : decode cX6_copyHolds 71 = .ok (.iadd, 1) := dk_96 (dk_at dksX6_copyHolds_3 1 rfl rfl)
theorem dX6_copyHolds_72 : decode cX6_copyHolds 72 = .ok (.aload_n 0, 1) := dk_42 (dk_at dksX6_copyHolds_3 2 rfl rfl)
theorem dX6_copyHolds_73 : decode cX6_copyHolds 73 = .ok (.iload_n 2, 1) := dk_28 (dk_at dksX6_copyHolds_3 3 rfl rfl)
theorem dX6_copyHolds_74 : decode cX6_copyHolds 74 = .ok (.iconst 0, 1) := dk_3 (dk_at dksX6_copyHolds_3 4 rfl rfl)
theorem dX6_copyHolds_75 : decode cX6_copyHolds 75 = .ok (.invokevirtual 266, 3) := dk_182 1 10 (dk_at dksX6_copyHolds_3 5 rfl rfl)
theorem dX6_copyHolds_78 : decode cX6_copyHolds 78 = .ok (.i2l, 1) := dk_133 (dk_at dksX6_copyHolds_3 8 rfl rfl)
theorem dX6_copyHolds_79 : decode cX6_copyHolds 79 = .ok (.aload_n 0, 1) := dk_42 (dk_at dksX6_copyHolds_3 9 rfl rfl)
theorem dX6_copyHolds_80 : decode cX6_copyHolds 80 = .ok (.getfield 21, 3) := dk_180 0 21 (dk_at dksX6_copyHolds_3 10 rfl rfl)
theorem dX6_copyHolds_83 : decode cX6_copyHolds 83 = .ok (.iload_n 1, 1) := dk_27 (dk_at dksX6_copyHolds_3 13 rfl rfl)
theorem dX6_copyHolds_84 : decode cX6_copyHolds 84 = .ok (.iaload, 1) := dk_46 (dk_at dksX6_copyHolds_3 14 rfl rfl)
theorem dX6_copyHolds_85 : decode cX6_copyHolds 85 = .ok (.invokestatic 96, 3) := dk_184 0 96 (dk_at dksX6_copyHolds_3 15 rfl rfl)
theorem dX6_copyHolds_88 : decode cX6_copyHolds 88 = .ok (.lastore, 1) := dk_80 (dk_at dksX6_copyHolds_3 18 rfl rfl)
theorem dX6_copyHolds_89 : decode cX6_copyHolds 89 = .ok (.iinc 2 1, 3) := dk_132 2 1 (dk_at dksX6_copyHolds_3 19 rfl rfl)
theorem dX6_copyHolds_92 : decode cX6_copyHolds 92 = .ok (.goto (-40), 3) := dk_167 255 216 (dk_at dksX6_copyHolds_4 0 rfl rfl)
theorem dX6_copyHolds_95 : decode cX6_copyHolds 95 = .ok (.aload_n 0, 1) := dk_42 (dk_at dksX6_copyHolds_4 3 rfl rfl)
theorem dX6_copyHolds_96 : decode cX6_copyHolds 96 = .ok (.aload_n 0, 1) := dk_42 (dk_at dksX6_copyHolds_4 4 rfl rfl)
theorem dX6_copyHolds_97 : decode cX6_copyHolds 97 = .ok (.getfield 7, 3) := dk_180 0 7 (dk_at dksX6_copyHolds_4 5 rfl rfl)
theorem dX6_copyHolds_100 : decode cX6_copyHolds 100 = .ok (.iconst 1, 1) := dk_4 (dk_at dksX6_copyHolds_4 8 rfl rfl)
theorem dX6_copyHolds_101 : decode cX6_copyHolds 101 = .ok (.iaload, 1) := dk_46 (dk_at dksX6_copyHolds_4 9 rfl rfl)
theorem dX6_copyHolds_102 : decode cX6_copyHolds 102 = .ok (.invokevirtual 82, 3) := dk_182 0 82 (dk_at dksX6_copyHolds_4 10 rfl rfl)
theorem dX6_copyHolds_105 : decode cX6_copyHolds 105 = .ok (.ireturn, 1) := dk_172 (dk_at dksX6_copyHolds_4 13 rfl rfl)
abbrev cX6_live : ByteArray := prog_15_method_141_code
def yX6_live : MethodName := ⟨RX6, "live", "(I)I"⟩
def dkwX6_live_3 : List UInt8 := [42, 180, 1, 160, 182, 0, 82, 172]
abbrev dktX6_live_3 : List UInt8 := dkwX6_live_3 ++ []
def dkwX6_live_2 : List UInt8 := [42, 180, 0, 65, 28, 42, 180, 0, 62, 28, 46, 79, 132, 2, 1, 167, 255, 236, 42, 4, 181, 1, 177, 42]
abbrev dktX6_live_2 : List UInt8 := dkwX6_live_2 ++ dktX6_live_3
def dkwX6_live_1 : List UInt8 := [46, 2, 160, 0, 10, 42, 16, 6, 182, 0, 78, 172, 42, 27, 182, 1, 174, 3, 61, 28, 8, 162, 0, 21]
abbrev dktX6_live_1 : List UInt8 := dkwX6_live_1 ++ dktX6_live_2
def dkwX6_live_0 : List UInt8 := [27, 133, 9, 20, 1, 172, 184, 1, 0, 154, 0, 9, 42, 4, 182, 0, 78, 172, 42, 180, 0, 7, 16, 8]
abbrev dktX6_live_0 : List UInt8 := dkwX6_live_0 ++ dktX6_live_1
theorem dksX6_live_0 : cX6_live.data.toList.drop 0 = dktX6_live_0 := by decide +kernel
theorem dksX6_live_1 : cX6_live.data.toList.drop 24 = dktX6_live_1 := dk_seg dksX6_live_0 24 rfl rfl
theorem dksX6_live_2 : cX6_live.data.toList.drop 48 = dktX6_live_2 := dk_seg dksX6_live_1 24 rfl rfl
theorem dksX6_live_3 : cX6_live.data.toList.drop 72 = dktX6_live_3 := dk_seg dksX6_live_2 24 rfl rfl
theorem dX6_live_0 : decode cX6_live 0 = .ok (.iload_n 1, 1) := dk_27 (dk_at dksX6_live_0 0 rfl rfl)
theorem dX6_live_1 : decode cX6_live 1 = .ok (.i2l, 1) := dk_133 (dk_at dksX6_live_0 1 rfl rfl)
theorem dX6_live_2 : decode cX6_live 2 = .ok (.lconst 0, 1) := dk_9 (dk_at dksX6_live_0 2 rfl rfl)
theorem dX6_live_3 : decode cX6_live 3 = .ok (.ldc2_w 428, 3) := dk_20 1 172 (dk_at dksX6_live_0 3 rfl rfl)
theorem dX6_live_6 : decode cX6_live 6 = .ok (.invokestatic 256, 3) := dk_184 1 0 (dk_at dksX6_live_0 6 rfl rfl)
theorem dX6_live_9 : decode cX6_live 9 = .ok (.ifCond .ne 9, 3) := dk_154 0 9 (dk_at dksX6_live_0 9 rfl rfl)
theorem dX6_live_12 : decode cX6_live 12 = .ok (.aload_n 0, 1) := dk_42 (dk_at dksX6_live_0 12 rfl rfl)
theorem dX6_live_13 : decode cX6_live 13 = .ok (.iconst 1, 1) := dk_4 (dk_at dksX6_live_0 13 rfl rfl)
theorem dX6_live_14 : decode cX6_live 14 = .ok (.invokevirtual 78, 3) := dk_182 0 78 (dk_at dksX6_live_0 14 rfl rfl)
theorem dX6_live_17 : decode cX6_live 17 = .ok (.ireturn, 1) := dk_172 (dk_at dksX6_live_0 17 rfl rfl)
theorem dX6_live_18 : decode cX6_live 18 = .ok (.aload_n 0, 1) := dk_42 (dk_at dksX6_live_0 18 rfl rfl)
theorem dX6_live_19 : decode cX6_live 19 = .ok (.getfield 7, 3) := dk_180 0 7 (dk_at dksX6_live_0 19 rfl rfl)
theorem dX6_live_22 : decode cX6_live 22 = .ok (.bipush 8, 2) := dk_16 8 (dk_at dksX6_live_0 22 rfl rfl)
theorem dX6_live_24 : decode cX6_live 24 = .ok (.iaload, 1) := dk_46 (dk_at dksX6_live_1 0 rfl rfl)
theorem dX6_live_25 : decode cX6_live 25 = .ok (.iconst (-1), 1) := dk_2 (dk_at dksX6_live_1 1 rfl rfl)
theorem dX6_live_26 : decode cX6_live 26 = .ok (.if_icmp .ne 10, 3) := dk_160 0 10 (dk_at dksX6_live_1 2 rfl rfl)
theorem dX6_live_29 : decode cX6_live 29 = .ok (.aload_n 0, 1) := dk_42 (dk_at dksX6_live_1 5 rfl rfl)
theorem dX6_live_30 : decode cX6_live 30 = .ok (.bipush 6, 2) := dk_16 6 (dk_at dksX6_live_1 6 rfl rfl)
theorem dX6_live_32 : decode cX6_live 32 = .ok (.invokevirtual 78, 3) := dk_182 0 78 (dk_at dksX6_live_1 8 rfl rfl)
theorem dX6_live_35 : decode cX6_live 35 = .ok (.ireturn, 1) := dk_172 (dk_at dksX6_live_1 11 rfl rfl)
theorem dX6_live_36 : decode cX6_live 36 = .ok (.aload_n 0, 1) := dk_42 (dk_at dksX6_live_1 12 rfl rfl)
theorem dX6_live_37 : decode cX6_live 37 = .ok (.iload_n 1, 1) := dk_27 (dk_at dksX6_live_1 13 rfl rfl)
theorem dX6_live_38 : decode cX6_live 38 = .ok (.invokevirtual 430, 3) := dk_182 1 174 (dk_at dksX6_live_1 14 rfl rfl)
theorem dX6_live_41 : decode cX6_live 41 = .ok (.iconst 0, 1) := dk_3 (dk_at dksX6_live_1 17 rfl rfl)
theorem dX6_live_42 : decode cX6_live 42 = .ok (.istore_n 2, 1) := dk_61 (dk_at dksX6_live_1 18 rfl rfl)
theorem dX6_live_43 : decode cX6_live 43 = .ok (.iload_n 2, 1) := dk_28 (dk_at dksX6_live_1 19 rfl rfl)
theorem dX6_live_44 : decode cX6_live 44 = .ok (.iconst 5, 1) := dk_8 (dk_at dksX6_live_1 20 rfl rfl)
theorem dX6_live_45 : decode cX6_live 45 = .ok (.if_icmp .ge 21, 3) := dk_162 0 21 (dk_at dksX6_live_1 21 rfl rfl)
theorem dX6_live_48 : decode cX6_live 48 = .ok (.aload_n 0, 1) := dk_42 (dk_at dksX6_live_2 0 rfl rfl)
theorem dX6_live_49 : decode cX6_live 49 = .ok (.getfield 65, 3) := dk_180 0 65 (dk_at dksX6_live_2 1 rfl rfl)
theorem dX6_live_52 : decode cX6_live 52 = .ok (.iload_n 2, 1) := dk_28 (dk_at dksX6_live_2 4 rfl rfl)
theorem dX6_live_53 : decode cX6_live 53 = .ok (.aload_n 0, 1) := dk_42 (dk_at dksX6_live_2 5 rfl rfl)
theorem dX6_live_54 : decode cX6_live 54 = .ok (.getfield 62, 3) := dk_180 0 62 (dk_at dksX6_live_2 6 rfl rfl)
theorem dX6_live_57 : decode cX6_live 57 = .ok (.iload_n 2, 1) := dk_28 (dk_at dksX6_live_2 9 rfl rfl)
theorem dX6_live_58 : decode cX6_live 58 = .ok (.iaload, 1) := dk_46 (dk_at dksX6_live_2 10 rfl rfl)
theorem dX6_live_59 : decode cX6_live 59 = .ok (.iastore, 1) := dk_79 (dk_at dksX6_live_2 11 rfl rfl)
theorem dX6_live_60 : decode cX6_live 60 = .ok (.iinc 2 1, 3) := dk_132 2 1 (dk_at dksX6_live_2 12 rfl rfl)
theorem dX6_live_63 : decode cX6_live 63 = .ok (.goto (-20), 3) := dk_167 255 236 (dk_at dksX6_live_2 15 rfl rfl)
theorem dX6_live_66 : decode cX6_live 66 = .ok (.aload_n 0, 1) := dk_42 (dk_at dksX6_live_2 18 rfl rfl)
theorem dX6_live_67 : decode cX6_live 67 = .ok (.iconst 1, 1) := dk_4 (dk_at dksX6_live_2 19 rfl rfl)
theorem dX6_live_68 : decode cX6_live 68 = .ok (.putfield 433, 3) := dk_181 1 177 (dk_at dksX6_live_2 20 rfl rfl)
theorem dX6_live_71 : decode cX6_live 71 = .ok (.aload_n 0, 1) := dk_42 (dk_at dksX6_live_2 23 rfl rfl)
theorem dX6_live_72 : decode cX6_live 72 = .ok (.aload_n 0, 1) := dk_42 (dk_at dksX6_live_3 0 rfl rfl)
theorem dX6_live_73 : decode cX6_live 73 = .ok (.getfield 416, 3) := dk_180 1 160 (dk_at dksX6_live_3 1 rfl rfl)
theorem dX6_live_76 : decode cX6_live 76 = .ok (.invokevirtual 82, 3) := dk_182 0 82 (dk_at dksX6_live_3 4 rfl rfl)
theorem dX6_live_79 : decode cX6_live 79 = .ok (.ireturn, 1) := dk_172 (dk_at dksX6_live_3 7 rfl rfl)
abbrev cX6_lives : ByteArray := prog_15_method_140_code
def yX6_lives : MethodName := ⟨RX6, "lives", "(I)V"⟩
def dkwX6_lives_7 : List UInt8 := [7, 96, 46, 4, 96, 167, 0, 6, 28, 4, 96, 182, 1, 169, 61, 167, 255, 107, 177]
abbrev dktX6_lives_7 : List UInt8 := dkwX6_lives_7 ++ []
def dkwX6_lives_6 : List UInt8 := [180, 0, 7, 29, 46, 17, 6, 164, 161, 0, 24, 42, 29, 182, 1, 166, 154, 0, 16, 42, 180, 0, 7, 29]
abbrev dktX6_lives_6 : List UInt8 := dkwX6_lives_6 ++ dktX6_lives_7
def dkwX6_lives_5 : List UInt8 := [16, 18, 160, 0, 19, 42, 180, 0, 59, 28, 42, 180, 0, 7, 29, 4, 96, 46, 4, 100, 79, 42, 42]
abbrev dktX6_lives_5 : List UInt8 := dkwX6_lives_5 ++ dktX6_lives_6
def dkwX6_lives_4 : List UInt8 := [3, 92, 46, 42, 29, 182, 1, 163, 153, 0, 7, 3, 167, 0, 4, 4, 96, 79, 42, 180, 0, 7, 29, 46]
abbrev dktX6_lives_4 : List UInt8 := dkwX6_lives_4 ++ dktX6_lives_5
def dkwX6_lives_3 : List UInt8 := [180, 1, 160, 4, 96, 181, 1, 160, 42, 180, 0, 7, 29, 46, 16, 20, 160, 0, 4, 177, 42, 180, 0, 62]
abbrev dktX6_lives_3 : List UInt8 := dkwX6_lives_3 ++ dktX6_lives_4
def dkwX6_lives_2 : List UInt8 := [17, 1, 44, 160, 0, 11, 42, 180, 0, 62, 7, 4, 79, 177, 16, 48, 16, 6, 28, 104, 96, 62, 42, 89]
abbrev dktX6_lives_2 : List UInt8 := dkwX6_lives_2 ++ dktX6_lives_3
def dkwX6_lives_1 : List UInt8 := [132, 2, 1, 167, 255, 241, 3, 61, 28, 42, 180, 0, 7, 16, 8, 46, 162, 0, 144, 42, 180, 1, 160]
abbrev dktX6_lives_1 : List UInt8 := dkwX6_lives_1 ++ dktX6_lives_2
def dkwX6_lives_0 : List UInt8 := [42, 27, 181, 1, 150, 42, 3, 181, 1, 160, 3, 61, 28, 8, 162, 0, 16, 42, 180, 0, 62, 28, 3, 79]
abbrev dktX6_lives_0 : List UInt8 := dkwX6_lives_0 ++ dktX6_lives_1
theorem dksX6_lives_0 : cX6_lives.data.toList.drop 0 = dktX6_lives_0 := by decide +kernel
theorem dksX6_lives_1 : cX6_lives.data.toList.drop 24 = dktX6_lives_1 := dk_seg dksX6_lives_0 24 rfl rfl
theorem dksX6_lives_2 : cX6_lives.data.toList.drop 47 = dktX6_lives_2 := dk_seg dksX6_lives_1 23 rfl rfl
theorem dksX6_lives_3 : cX6_lives.data.toList.drop 71 = dktX6_lives_3 := dk_seg dksX6_lives_2 24 rfl rfl
theorem dksX6_lives_4 : cX6_lives.data.toList.drop 95 = dktX6_lives_4 := dk_seg dksX6_lives_3 24 rfl rfl
theorem dksX6_lives_5 : cX6_lives.data.toList.drop 119 = dktX6_lives_5 := dk_seg dksX6_lives_4 24 rfl rfl
theorem dksX6_lives_6 : cX6_lives.data.toList.drop 142 = dktX6_lives_6 := dk_seg dksX6_lives_5 23 rfl rfl
theorem dksX6_lives_7 : cX6_lives.data.toList.drop 166 = dktX6_lives_7 := dk_seg dksX6_lives_6 24 rfl rfl
theorem dX6_lives_0 : decode cX6_lives 0 = .ok (.aload_n 0, 1) := dk_42 (dk_at dksX6_lives_0 0 rfl rfl)
theorem dX6_lives_1 : decode cX6_lives 1 = .ok (.iload_n 1, 1) := dk_27 (dk_at dksX6_lives_0 1 rfl rfl)
theorem dX6_lives_2 : decode cX6_lives 2 = .ok (.putfield 406, 3) := dk_181 1 150 (dk_at dksX6_lives_0 2 rfl rfl)
theorem dX6_lives_5 : decode cX6_lives 5 = .ok (.aload_n 0, 1) := dk_42 (dk_at dksX6_lives_0 5 rfl rfl)
theorem dX6_lives_6 : decode cX6_lives 6 = .ok (.iconst 0, 1) := dk_3 (dk_at dksX6_lives_0 6 rfl rfl)
theorem dX6_lives_7 : decode cX6_lives 7 = .ok (.putfield 416, 3) := dk_181 1 160 (dk_at dksX6_lives_0 7 rfl rfl)
theorem dX6_lives_10 : decode cX6_lives 10 = .ok (.iconst 0, 1) := dk_3 (dk_at dksX6_lives_0 10 rfl rfl)
theorem dX6_lives_11 : decode cX6_lives 11 = .ok (.istore_n 2, 1) := dk_61 (dk_at dksX6_lives_0 11 rfl rfl)
theorem dX6_lives_12 : decode cX6_lives 12 = .ok (.iload_n 2, 1) := dk_28 (dk_at dksX6_lives_0 12 rfl rfl)
theorem dX6_lives_13 : decode cX6_lives 13 = .ok (.iconst 5, 1) := dk_8 (dk_at dksX6_lives_0 13 rfl rfl)
theorem dX6_lives_14 : decode cX6_lives 14 = .ok (.if_icmp .ge 16, 3) := dk_162 0 16 (dk_at dksX6_lives_0 14 rfl rfl)
theorem dX6_lives_17 : decode cX6_lives 17 = .ok (.aload_n 0, 1) := dk_42 (dk_at dksX6_lives_0 17 rfl rfl)
theorem dX6_lives_18 : decode cX6_lives 18 = .ok (.getfield 62, 3) := dk_180 0 62 (dk_at dksX6_lives_0 18 rfl rfl)
theorem dX6_lives_21 : decode cX6_lives 21 = .ok (.iload_n 2, 1) := dk_28 (dk_at dksX6_lives_0 21 rfl rfl)
theorem dX6_lives_22 : decode cX6_lives 22 = .ok (.iconst 0, 1) := dk_3 (dk_at dksX6_lives_0 22 rfl rfl)
theorem dX6_lives_23 : decode cX6_lives 23 = .ok (.iastore, 1) := dk_79 (dk_at dksX6_lives_0 23 rfl rfl)
theorem dX6_lives_24 : decode cX6_lives 24 = .ok (.iinc 2 1, 3) := dk_132 2 1 (dk_at dksX6_lives_1 0 rfl rfl)
theorem dX6_lives_27 : decode cX6_lives 27 = .ok (.goto (-15), 3) := dk_167 255 241 (dk_at dksX6_lives_1 3 rfl rfl)
theorem dX6_lives_30 : decode cX6_lives 30 = .ok (.iconst 0, 1) := dk_3 (dk_at dksX6_lives_1 6 rfl rfl)
theorem dX6_lives_31 : decode cX6_lives 31 = .ok (.istore_n 2, 1) := dk_61 (dk_at dksX6_lives_1 7 rfl rfl)
theorem dX6_lives_32 : decode cX6_lives 32 = .ok (.iload_n 2, 1) := dk_28 (dk_at dksX6_lives_1 8 rfl rfl)
theorem dX6_lives_33 : decode cX6_lives 33 = .ok (.aload_n 0, 1) := dk_42 (dk_at dksX6_lives_1 9 rfl rfl)
theorem dX6_lives_34 : decode cX6_lives 34 = .ok (.getfield 7, 3) := dk_180 0 7 (dk_at dksX6_lives_1 10 rfl rfl)
theorem dX6_lives_37 : decode cX6_lives 37 = .ok (.bipush 8, 2) := dk_16 8 (dk_at dksX6_lives_1 13 rfl rfl)
theorem dX6_lives_39 : decode cX6_lives 39 = .ok (.iaload, 1) := dk_46 (dk_at dksX6_lives_1 15 rfl rfl)
theorem dX6_lives_40 : decode cX6_lives 40 = .ok (.if_icmp .ge 144, 3) := dk_162 0 144 (dk_at dksX6_lives_1 16 rfl rfl)
theorem dX6_lives_43 : decode cX6_lives 43 = .ok (.aload_n 0, 1) := dk_42 (dk_at dksX6_lives_1 19 rfl rfl)
theorem dX6_lives_44 : decode cX6_lives 44 = .ok (.getfield 416, 3) := dk_180 1 160 (dk_at dksX6_lives_1 20 rfl rfl)
theorem dX6_lives_47 : decode cX6_lives 47 = .ok (.sipush 300, 3) := dk_17 1 44 (dk_at dksX6_lives_2 0 rfl rfl)
theorem dX6_lives_50 : decode cX6_lives 50 = .ok (.if_icmp .ne 11, 3) := dk_160 0 11 (dk_at dksX6_lives_2 3 rfl rfl)
theorem dX6_lives_53 : decode cX6_lives 53 = .ok (.aload_n 0, 1) := dk_42 (dk_at dksX6_lives_2 6 rfl rfl)
theorem dX6_lives_54 : decode cX6_lives 54 = .ok (.getfield 62, 3) := dk_180 0 62 (dk_at dksX6_lives_2 7 rfl rfl)
theorem dX6_lives_57 : decode cX6_lives 57 = .ok (.iconst 4, 1) := dk_7 (dk_at dksX6_lives_2 10 rfl rfl)
theorem dX6_lives_58 : decode cX6_lives 58 = .ok (.iconst 1, 1) := dk_4 (dk_at dksX6_lives_2 11 rfl rfl)
theorem dX6_lives_59 : decode cX6_lives 59 = .ok (.iastore, 1) := dk_79 (dk_at dksX6_lives_2 12 rfl rfl)
theorem dX6_lives_60 : decode cX6_lives 60 = .ok (.return_, 1) := dk_177 (dk_at dksX6_lives_2 13 rfl rfl)
theorem dX6_lives_61 : decode cX6_lives 61 = .ok (.bipush 48, 2) := dk_16 48 (dk_at dksX6_lives_2 14 rfl rfl)
theorem dX6_lives_63 : decode cX6_lives 63 = .ok (.bipush 6, 2) := dk_16 6 (dk_at dksX6_lives_2 16 rfl rfl)
theorem dX6_lives_65 : decode cX6_lives 65 = .ok (.iload_n 2, 1) := dk_28 (dk_at dksX6_lives_2 18 rfl rfl)
theorem dX6_lives_66 : decode cX6_lives 66 = .ok (.imul, 1) := dk_104 (dk_at dksX6_lives_2 19 rfl rfl)
theorem dX6_lives_67 : decode cX6_lives 67 = .ok (.iadd, 1) := dk_96 (dk_at dksX6_lives_2 20 rfl rfl)
theorem dX6_lives_68 : decode cX6_lives 68 = .ok (.istore_n 3, 1) := dk_62 (dk_at dksX6_lives_2 21 rfl rfl)
theorem dX6_lives_69 : decode cX6_lives 69 = .ok (.aload_n 0, 1) := dk_42 (dk_at dksX6_lives_2 22 rfl rfl)
theorem dX6_lives_70 : decode cX6_lives 70 = .ok (.dup, 1) := dk_89 (dk_at dksX6_lives_2 23 rfl rfl)
theorem dX6_lives_71 : decode cX6_lives 71 = .ok (.getfield 416, 3) := dk_180 1 160 (dk_at dksX6_lives_3 0 rfl rfl)
theorem dX6_lives_74 : decode cX6_lives 74 = .ok (.iconst 1, 1) := dk_4 (dk_at dksX6_lives_3 3 rfl rfl)
theorem dX6_lives_75 : decode cX6_lives 75 = .ok (.iadd, 1) := dk_96 (dk_at dksX6_lives_3 4 rfl rfl)
theorem dX6_lives_76 : decode cX6_lives 76 = .ok (.putfield 416, 3) := dk_181 1 160 (dk_at dksX6_lives_3 5 rfl rfl)
theorem dX6_lives_79 : decode cX6_lives 79 = .ok (.aload_n 0, 1) := dk_42 (dk_at dksX6_lives_3 8 rfl rfl)
theorem dX6_lives_80 : decode cX6_lives 80 = .ok (.getfield 7, 3) := dk_180 0 7 (dk_at dksX6_lives_3 9 rfl rfl)
theorem dX6_lives_83 : decode cX6_lives 83 = .ok (.iload_n 3, 1) := dk_29 (dk_at dksX6_lives_3 12 rfl rfl)
theorem dX6_lives_84 : decode cX6_lives 84 = .ok (.iaload, 1) := dk_46 (dk_at dksX6_lives_3 13 rfl rfl)
theorem dX6_lives_85 : decode cX6_lives 85 = .ok (.bipush 20, 2) := dk_16 20 (dk_at dksX6_lives_3 14 rfl rfl)
theorem dX6_lives_87 : decode cX6_lives 87 = .ok (.if_icmp .ne 4, 3) := dk_160 0 4 (dk_at dksX6_lives_3 16 rfl rfl)
theorem dX6_lives_90 : decode cX6_lives 90 = .ok (.return_, 1) := dk_177 (dk_at dksX6_lives_3 19 rfl rfl)
theorem dX6_lives_91 : decode cX6_lives 91 = .ok (.aload_n 0, 1) := dk_42 (dk_at dksX6_lives_3 20 rfl rfl)
theorem dX6_lives_92 : decode cX6_lives 92 = .ok (.getfield 62, 3) := dk_180 0 62 (dk_at dksX6_lives_3 21 rfl rfl)
theorem dX6_lives_95 : decode cX6_lives 95 = .ok (.iconst 0, 1) := dk_3 (dk_at dksX6_lives_4 0 rfl rfl)
theorem dX6_lives_96 : decode cX6_lives 96 = .ok (.dup2, 1) := dk_92 (dk_at dksX6_lives_4 1 rfl rfl)
theorem dX6_lives_97 : decode cX6_lives 97 = .ok (.iaload, 1) := dk_46 (dk_at dksX6_lives_4 2 rfl rfl)
theorem dX6_lives_98 : decode cX6_lives 98 = .ok (.aload_n 0, 1) := dk_42 (dk_at dksX6_lives_4 3 rfl rfl)
theorem dX6_lives_99 : decode cX6_lives 99 = .ok (.iload_n 3, 1) := dk_29 (dk_at dksX6_lives_4 4 rfl rfl)
theorem dX6_lives_100 : decode cX6_lives 100 = .ok (.invokevirtual 419, 3) := dk_182 1 163 (dk_at dksX6_lives_4 5 rfl rfl)
theorem dX6_lives_103 : decode cX6_lives 103 = .ok (.ifCond .eq 7, 3) := dk_153 0 7 (dk_at dksX6_lives_4 8 rfl rfl)
theorem dX6_lives_106 : decode cX6_lives 106 = .ok (.iconst 0, 1) := dk_3 (dk_at dksX6_lives_4 11 rfl rfl)
theorem dX6_lives_107 : decode cX6_lives 107 = .ok (.goto 4, 3) := dk_167 0 4 (dk_at dksX6_lives_4 12 rfl rfl)
theorem dX6_lives_110 : decode cX6_lives 110 = .ok (.iconst 1, 1) := dk_4 (dk_at dksX6_lives_4 15 rfl rfl)
theorem dX6_lives_111 : decode cX6_lives 111 = .ok (.iadd, 1) := dk_96 (dk_at dksX6_lives_4 16 rfl rfl)
theorem dX6_lives_112 : decode cX6_lives 112 = .ok (.iastore, 1) := dk_79 (dk_at dksX6_lives_4 17 rfl rfl)
theorem dX6_lives_113 : decode cX6_lives 113 = .ok (.aload_n 0, 1) := dk_42 (dk_at dksX6_lives_4 18 rfl rfl)
theorem dX6_lives_114 : decode cX6_lives 114 = .ok (.getfield 7, 3) := dk_180 0 7 (dk_at dksX6_lives_4 19 rfl rfl)
theorem dX6_lives_117 : decode cX6_lives 117 = .ok (.iload_n 3, 1) := dk_29 (dk_at dksX6_lives_4 22 rfl rfl)
theorem dX6_lives_118 : decode cX6_lives 118 = .ok (.iaload, 1) := dk_46 (dk_at dksX6_lives_4 23 rfl rfl)
theorem dX6_lives_119 : decode cX6_lives 119 = .ok (.bipush 18, 2) := dk_16 18 (dk_at dksX6_lives_5 0 rfl rfl)
theorem dX6_lives_121 : decode cX6_lives 121 = .ok (.if_icmp .ne 19, 3) := dk_160 0 19 (dk_at dksX6_lives_5 2 rfl rfl)
theorem dX6_lives_124 : decode cX6_lives 124 = .ok (.aload_n 0, 1) := dk_42 (dk_at dksX6_lives_5 5 rfl rfl)
theorem dX6_lives_125 : decode cX6_lives 125 = .ok (.getfield 59, 3) := dk_180 0 59 (dk_at dksX6_lives_5 6 rfl rfl)
theorem dX6_lives_128 : decode cX6_lives 128 = .ok (.iload_n 2, 1) := dk_28 (dk_at dksX6_lives_5 9 rfl rfl)
theorem dX6_lives_129 : decode cX6_lives 129 = .ok (.aload_n 0, 1) := dk_42 (dk_at dksX6_lives_5 10 rfl rfl)
theorem dX6_lives_130 : decode cX6_lives 130 = .ok (.getfield 7, 3) := dk_180 0 7 (dk_at dksX6_lives_5 11 rfl rfl)
theorem dX6_lives_133 : decode cX6_lives 133 = .ok (.iload_n 3, 1) := dk_29 (dk_at dksX6_lives_5 14 rfl rfl)
theorem dX6_lives_134 : decode cX6_lives 134 = .ok (.iconst 1, 1) := dk_4 (dk_at dksX6_lives_5 15 rfl rfl)
theorem dX6_lives_135 : decode cX6_lives 135 = .ok (.iadd, 1) := dk_96 (dk_at dksX6_lives_5 16 rfl rfl)
theorem dX6_lives_136 : decode cX6_lives 136 = .ok (.iaload, 1) := dk_46 (dk_at dksX6_lives_5 17 rfl rfl)
theorem dX6_lives_137 : decode cX6_lives 137 = .ok (.iconst 1, 1) := dk_4 (dk_at dksX6_lives_5 18 rfl rfl)
theorem dX6_lives_138 : decode cX6_lives 138 = .ok (.isub, 1) := dk_100 (dk_at dksX6_lives_5 19 rfl rfl)
theorem dX6_lives_139 : decode cX6_lives 139 = .ok (.iastore, 1) := dk_79 (dk_at dksX6_lives_5 20 rfl rfl)
theorem dX6_lives_140 : decode cX6_lives 140 = .ok (.aload_n 0, 1) := dk_42 (dk_at dksX6_lives_5 21 rfl rfl)
theorem dX6_lives_141 : decode cX6_lives 141 = .ok (.aload_n 0, 1) := dk_42 (dk_at dksX6_lives_5 22 rfl rfl)
theorem dX6_lives_142 : decode cX6_lives 142 = .ok (.getfield 7, 3) := dk_180 0 7 (dk_at dksX6_lives_6 0 rfl rfl)
theorem dX6_lives_145 : decode cX6_lives 145 = .ok (.iload_n 3, 1) := dk_29 (dk_at dksX6_lives_6 3 rfl rfl)
theorem dX6_lives_146 : decode cX6_lives 146 = .ok (.iaload, 1) := dk_46 (dk_at dksX6_lives_6 4 rfl rfl)
theorem dX6_lives_147 : decode cX6_lives 147 = .ok (.sipush 1700, 3) := dk_17 6 164 (dk_at dksX6_lives_6 5 rfl rfl)
theorem dX6_lives_150 : decode cX6_lives 150 = .ok (.if_icmp .lt 24, 3) := dk_161 0 24 (dk_at dksX6_lives_6 8 rfl rfl)
theorem dX6_lives_153 : decode cX6_lives 153 = .ok (.aload_n 0, 1) := dk_42 (dk_at dksX6_lives_6 11 rfl rfl)
theorem dX6_lives_154 : decode cX6_lives 154 = .ok (.iload_n 3, 1) := dk_29 (dk_at dksX6_lives_6 12 rfl rfl)
theorem dX6_lives_155 : decode cX6_lives 155 = .ok (.invokevirtual 422, 3) := dk_182 1 166 (dk_at dksX6_lives_6 13 rfl rfl)
theorem dX6_lives_158 : decode cX6_lives 158 = .ok (.ifCond .ne 16, 3) := dk_154 0 16 (dk_at dksX6_lives_6 16 rfl rfl)
theorem dX6_lives_161 : decode cX6_lives 161 = .ok (.aload_n 0, 1) := dk_42 (dk_at dksX6_lives_6 19 rfl rfl)
theorem dX6_lives_162 : decode cX6_lives 162 = .ok (.getfield 7, 3) := dk_180 0 7 (dk_at dksX6_lives_6 20 rfl rfl)
theorem dX6_lives_165 : decode cX6_lives 165 = .ok (.iload_n 3, 1) := dk_29 (dk_at dksX6_lives_6 23 rfl rfl)
theorem dX6_lives_166 : decode cX6_lives 166 = .ok (.iconst 4, 1) := dk_7 (dk_at dksX6_lives_7 0 rfl rfl)
theorem dX6_lives_167 : decode cX6_lives 167 = .ok (.iadd, 1) := dk_96 (dk_at dksX6_lives_7 1 rfl rfl)
theorem dX6_lives_168 : decode cX6_lives 168 = .ok (.iaload, 1) := dk_46 (dk_at dksX6_lives_7 2 rfl rfl)
theorem dX6_lives_169 : decode cX6_lives 169 = .ok (.iconst 1, 1) := dk_4 (dk_at dksX6_lives_7 3 rfl rfl)
theorem dX6_lives_170 : decode cX6_lives 170 = .ok (.iadd, 1) := dk_96 (dk_at dksX6_lives_7 4 rfl rfl)
theorem dX6_lives_171 : decode cX6_lives 171 = .ok (.goto 6, 3) := dk_167 0 6 (dk_at dksX6_lives_7 5 rfl rfl)
theorem dX6_lives_174 : decode cX6_lives 174 = .ok (.iload_n 2, 1) := dk_28 (dk_at dksX6_lives_7 8 rfl rfl)
theorem dX6_lives_175 : decode cX6_lives 175 = .ok (.iconst 1, 1) := dk_4 (dk_at dksX6_lives_7 9 rfl rfl)
theorem dX6_lives_176 : decode cX6_lives 176 = .ok (.iadd, 1) := dk_96 (dk_at dksX6_lives_7 10 rfl rfl)
theorem dX6_lives_177 : decode cX6_lives 177 = .ok (.invokevirtual 425, 3) := dk_182 1 169 (dk_at dksX6_lives_7 11 rfl rfl)
theorem dX6_lives_180 : decode cX6_lives 180 = .ok (.istore_n 2, 1) := dk_61 (dk_at dksX6_lives_7 14 rfl rfl)
theorem dX6_lives_181 : decode cX6_lives 181 = .ok (.goto (-149), 3) := dk_167 255 107 (dk_at dksX6_lives_7 15 rfl rfl)
theorem dX6_lives_184 : decode cX6_lives 184 = .ok (.return_, 1) := dk_177 (dk_at dksX6_lives_7 18 rfl rfl)
abbrev cX6_does : ByteArray := prog_15_method_137_code
def yX6_does : MethodName := ⟨RX6, "does", "(I)Z"⟩
def dkwX6_does_4 : List UInt8 := [180, 0, 7, 7, 46, 162, 0, 14, 42, 182, 1, 154, 153, 0, 7, 4, 167, 0, 4, 3, 172, 4, 172]
abbrev dktX6_does_4 : List UInt8 := dkwX6_does_4 ++ []
def dkwX6_does_3 : List UInt8 := [172, 42, 28, 42, 180, 0, 7, 27, 5, 96, 46, 182, 1, 70, 172, 42, 16, 16, 182, 1, 157, 42]
abbrev dktX6_does_3 : List UInt8 := dkwX6_does_3 ++ dktX6_does_4
def dkwX6_does_2 : List UInt8 := [42, 182, 1, 154, 172, 42, 28, 4, 182, 1, 62, 172, 42, 28, 3, 182, 1, 62, 172, 42, 28, 182, 1, 65]
abbrev dktX6_does_2 : List UInt8 := dkwX6_does_2 ++ dktX6_does_3
def dkwX6_does_1 : List UInt8 := [170, 0, 0, 0, 104, 0, 0, 0, 11, 0, 0, 0, 16, 0, 0, 0, 37, 0, 0, 0, 42, 0, 0, 0, 49, 0, 0, 0, 56, 0, 0, 0, 62, 0, 0, 0, 76]
abbrev dktX6_does_1 : List UInt8 := dkwX6_does_1 ++ dktX6_does_2
def dkwX6_does_0 : List UInt8 := [42, 180, 0, 7, 27, 4, 96, 46, 61, 42, 180, 0, 7, 27, 46]
abbrev dktX6_does_0 : List UInt8 := dkwX6_does_0 ++ dktX6_does_1
theorem dksX6_does_0 : cX6_does.data.toList.drop 0 = dktX6_does_0 := by decide +kernel
theorem dksX6_does_1 : cX6_does.data.toList.drop 15 = dktX6_does_1 := dk_seg dksX6_does_0 15 rfl rfl
theorem dksX6_does_2 : cX6_does.data.toList.drop 52 = dktX6_does_2 := dk_seg dksX6_does_1 37 rfl rfl
theorem dksX6_does_3 : cX6_does.data.toList.drop 76 = dktX6_does_3 := dk_seg dksX6_does_2 24 rfl rfl
theorem dksX6_does_4 : cX6_does.data.toList.drop 98 = dktX6_does_4 := dk_seg dksX6_does_3 22 rfl rfl
theorem dX6_does_0 : decode cX6_does 0 = .ok (.aload_n 0, 1) := dk_42 (dk_at dksX6_does_0 0 rfl rfl)
theorem dX6_does_1 : decode cX6_does 1 = .ok (.getfield 7, 3) := dk_180 0 7 (dk_at dksX6_does_0 1 rfl rfl)
theorem dX6_does_4 : decode cX6_does 4 = .ok (.iload_n 1, 1) := dk_27 (dk_at dksX6_does_0 4 rfl rfl)
theorem dX6_does_5 : decode cX6_does 5 = .ok (.iconst 1, 1) := dk_4 (dk_at dksX6_does_0 5 rfl rfl)
theorem dX6_does_6 : decode cX6_does 6 = .ok (.iadd, 1) := dk_96 (dk_at dksX6_does_0 6 rfl rfl)
theorem dX6_does_7 : decode cX6_does 7 = .ok (.iaload, 1) := dk_46 (dk_at dksX6_does_0 7 rfl rfl)
theorem dX6_does_8 : decode cX6_does 8 = .ok (.istore_n 2, 1) := dk_61 (dk_at dksX6_does_0 8 rfl rfl)
theorem dX6_does_9 : decode cX6_does 9 = .ok (.aload_n 0, 1) := dk_42 (dk_at dksX6_does_0 9 rfl rfl)
theorem dX6_does_10 : decode cX6_does 10 = .ok (.getfield 7, 3) := dk_180 0 7 (dk_at dksX6_does_0 10 rfl rfl)
theorem dX6_does_13 : decode cX6_does 13 = .ok (.iload_n 1, 1) := dk_27 (dk_at dksX6_does_0 13 rfl rfl)
theorem dX6_does_14 : decode cX6_does 14 = .ok (.iaload, 1) := dk_46 (dk_at dksX6_does_0 14 rfl rfl)
theorem dX6_does_15 : decode cX6_does 15 = .ok (.tableswitch 104 11 16 #[37, 42, 49, 56, 62, 76], 37) := by decide +kernel
theorem dX6_does_52 : decode cX6_does 52 = .ok (.aload_n 0, 1) := dk_42 (dk_at dksX6_does_2 0 rfl rfl)
theorem dX6_does_53 : decode cX6_does 53 = .ok (.invokevirtual 410, 3) := dk_182 1 154 (dk_at dksX6_does_2 1 rfl rfl)
theorem dX6_does_56 : decode cX6_does 56 = .ok (.ireturn, 1) := dk_172 (dk_at dksX6_does_2 4 rfl rfl)
theorem dX6_does_57 : decode cX6_does 57 = .ok (.aload_n 0, 1) := dk_42 (dk_at dksX6_does_2 5 rfl rfl)
theorem dX6_does_58 : decode cX6_does 58 = .ok (.iload_n 2, 1) := dk_28 (dk_at dksX6_does_2 6 rfl rfl)
theorem dX6_does_59 : decode cX6_does 59 = .ok (.iconst 1, 1) := dk_4 (dk_at dksX6_does_2 7 rfl rfl)
theorem dX6_does_60 : decode cX6_does 60 = .ok (.invokevirtual 318, 3) := dk_182 1 62 (dk_at dksX6_does_2 8 rfl rfl)
theorem dX6_does_63 : decode cX6_does 63 = .ok (.ireturn, 1) := dk_172 (dk_at dksX6_does_2 11 rfl rfl)
theorem dX6_does_64 : decode cX6_does 64 = .ok (.aload_n 0, 1) := dk_42 (dk_at dksX6_does_2 12 rfl rfl)
theorem dX6_does_65 : decode cX6_does 65 = .ok (.iload_n 2, 1) := dk_28 (dk_at dksX6_does_2 13 rfl rfl)
theorem dX6_does_66 : decode cX6_does 66 = .ok (.iconst 0, 1) := dk_3 (dk_at dksX6_does_2 14 rfl rfl)
theorem dX6_does_67 : decode cX6_does 67 = .ok (.invokevirtual 318, 3) := dk_182 1 62 (dk_at dksX6_does_2 15 rfl rfl)
theorem dX6_does_70 : decode cX6_does 70 = .ok (.ireturn, 1) := dk_172 (dk_at dksX6_does_2 18 rfl rfl)
theorem dX6_does_71 : decode cX6_does 71 = .ok (.aload_n 0, 1) := dk_42 (dk_at dksX6_does_2 19 rfl rfl)
theorem dX6_does_72 : decode cX6_does 72 = .ok (.iload_n 2, 1) := dk_28 (dk_at dksX6_does_2 20 rfl rfl)
theorem dX6_does_73 : decode cX6_does 73 = .ok (.invokevirtual 321, 3) := dk_182 1 65 (dk_at dksX6_does_2 21 rfl rfl)
theorem dX6_does_76 : decode cX6_does 76 = .ok (.ireturn, 1) := dk_172 (dk_at dksX6_does_3 0 rfl rfl)
theorem dX6_does_77 : decode cX6_does 77 = .ok (.aload_n 0, 1) := dk_42 (dk_at dksX6_does_3 1 rfl rfl)
theorem dX6_does_78 : decode cX6_does 78 = .ok (.iload_n 2, 1) := dk_28 (dk_at dksX6_does_3 2 rfl rfl)
theorem dX6_does_79 : decode cX6_does 79 = .ok (.aload_n 0, 1) := dk_42 (dk_at dksX6_does_3 3 rfl rfl)
theorem dX6_does_80 : decode cX6_does 80 = .ok (.getfield 7, 3) := dk_180 0 7 (dk_at dksX6_does_3 4 rfl rfl)
theorem dX6_does_83 : decode cX6_does 83 = .ok (.iload_n 1, 1) := dk_27 (dk_at dksX6_does_3 7 rfl rfl)
theorem dX6_does_84 : decode cX6_does 84 = .ok (.iconst 2, 1) := dk_5 (dk_at dksX6_does_3 8 rfl rfl)
theorem dX6_does_85 : decode cX6_does 85 = .ok (.iadd, 1) := dk_96 (dk_at dksX6_does_3 9 rfl rfl)
theorem dX6_does_86 : decode cX6_does 86 = .ok (.iaload, 1) := dk_46 (dk_at dksX6_does_3 10 rfl rfl)
theorem dX6_does_87 : decode cX6_does 87 = .ok (.invokevirtual 326, 3) := dk_182 1 70 (dk_at dksX6_does_3 11 rfl rfl)
theorem dX6_does_90 : decode cX6_does 90 = .ok (.ireturn, 1) := dk_172 (dk_at dksX6_does_3 14 rfl rfl)
theorem dX6_does_91 : decode cX6_does 91 = .ok (.aload_n 0, 1) := dk_42 (dk_at dksX6_does_3 15 rfl rfl)
theorem dX6_does_92 : decode cX6_does 92 = .ok (.bipush 16, 2) := dk_16 16 (dk_at dksX6_does_3 16 rfl rfl)
theorem dX6_does_94 : decode cX6_does 94 = .ok (.invokevirtual 413, 3) := dk_182 1 157 (dk_at dksX6_does_3 18 rfl rfl)
theorem dX6_does_97 : decode cX6_does 97 = .ok (.aload_n 0, 1) := dk_42 (dk_at dksX6_does_3 21 rfl rfl)
theorem dX6_does_98 : decode cX6_does 98 = .ok (.getfield 7, 3) := dk_180 0 7 (dk_at dksX6_does_4 0 rfl rfl)
theorem dX6_does_101 : decode cX6_does 101 = .ok (.iconst 4, 1) := dk_7 (dk_at dksX6_does_4 3 rfl rfl)
theorem dX6_does_102 : decode cX6_does 102 = .ok (.iaload, 1) := dk_46 (dk_at dksX6_does_4 4 rfl rfl)
theorem dX6_does_103 : decode cX6_does 103 = .ok (.if_icmp .ge 14, 3) := dk_162 0 14 (dk_at dksX6_does_4 5 rfl rfl)
theorem dX6_does_106 : decode cX6_does 106 = .ok (.aload_n 0, 1) := dk_42 (dk_at dksX6_does_4 8 rfl rfl)
theorem dX6_does_107 : decode cX6_does 107 = .ok (.invokevirtual 410, 3) := dk_182 1 154 (dk_at dksX6_does_4 9 rfl rfl)
theorem dX6_does_110 : decode cX6_does 110 = .ok (.ifCond .eq 7, 3) := dk_153 0 7 (dk_at dksX6_does_4 12 rfl rfl)
theorem dX6_does_113 : decode cX6_does 113 = .ok (.iconst 1, 1) := dk_4 (dk_at dksX6_does_4 15 rfl rfl)
theorem dX6_does_114 : decode cX6_does 114 = .ok (.goto 4, 3) := dk_167 0 4 (dk_at dksX6_does_4 16 rfl rfl)
theorem dX6_does_117 : decode cX6_does 117 = .ok (.iconst 0, 1) := dk_3 (dk_at dksX6_does_4 19 rfl rfl)
theorem dX6_does_118 : decode cX6_does 118 = .ok (.ireturn, 1) := dk_172 (dk_at dksX6_does_4 20 rfl rfl)
theorem dX6_does_119 : decode cX6_does 119 = .ok (.iconst 1, 1) := dk_4 (dk_at dksX6_does_4 21 rfl rfl)
theorem dX6_does_120 : decode cX6_does 120 = .ok (.ireturn, 1) := dk_172 (dk_at dksX6_does_4 22 rfl rfl)
abbrev cX6_callsBy : ByteArray := prog_15_method_136_code
def yX6_callsBy : MethodName := ⟨RX6, "callsBy", "()Z"⟩
def dkwX6_callsBy_2 : List UInt8 := [180, 0, 62, 6, 92, 46, 42, 182, 1, 25, 27, 100, 96, 79, 4, 172]
abbrev dktX6_callsBy_2 : List UInt8 := dkwX6_callsBy_2 ++ []
def dkwX6_callsBy_1 : List UInt8 := [92, 46, 42, 182, 1, 59, 184, 1, 49, 96, 79, 42, 180, 0, 62, 4, 92, 46, 4, 96, 79, 42]
abbrev dktX6_callsBy_1 : List UInt8 := dkwX6_callsBy_1 ++ dktX6_callsBy_2
def dkwX6_callsBy_0 : List UInt8 := [42, 180, 0, 7, 8, 46, 17, 39, 15, 160, 0, 5, 3, 172, 42, 182, 1, 25, 60, 42, 180, 0, 62, 5]
abbrev dktX6_callsBy_0 : List UInt8 := dkwX6_callsBy_0 ++ dktX6_callsBy_1
theorem dksX6_callsBy_0 : cX6_callsBy.data.toList.drop 0 = dktX6_callsBy_0 := by decide +kernel
theorem dksX6_callsBy_1 : cX6_callsBy.data.toList.drop 24 = dktX6_callsBy_1 := dk_seg dksX6_callsBy_0 24 rfl rfl
theorem dksX6_callsBy_2 : cX6_callsBy.data.toList.drop 46 = dktX6_callsBy_2 := dk_seg dksX6_callsBy_1 22 rfl rfl
theorem dX6_callsBy_0 : decode cX6_callsBy 0 = .ok (.aload_n 0, 1) := dk_42 (dk_at dksX6_callsBy_0 0 rfl rfl)
theorem dX6_callsBy_1 : decode cX6_callsBy 1 = .ok (.getfield 7, 3) := dk_180 0 7 (dk_at dksX6_callsBy_0 1 rfl rfl)
theorem dX6_callsBy_4 : decode cX6_callsBy 4 = .ok (.iconst 5, 1) := dk_8 (dk_at dksX6_callsBy_0 4 rfl rfl)
theorem dX6_callsBy_5 : decode cX6_callsBy 5 = .ok (.iaload, 1) := dk_46 (dk_at dksX6_callsBy_0 5 rfl rfl)
theorem dX6_callsBy_6 : decode cX6_callsBy 6 = .ok (.sipush 9999, 3) := dk_17 39 15 (dk_at dksX6_callsBy_0 6 rfl rfl)
theorem dX6_callsBy_9 : decode cX6_callsBy 9 = .ok (.if_icmp .ne 5, 3) := dk_160 0 5 (dk_at dksX6_callsBy_0 9 rfl rfl)
theorem dX6_callsBy_12 : decode cX6_callsBy 12 = .ok (.iconst 0, 1) := dk_3 (dk_at dksX6_callsBy_0 12 rfl rfl)
theorem dX6_callsBy_13 : decode cX6_callsBy 13 = .ok (.ireturn, 1) := dk_172 (dk_at dksX6_callsBy_0 13 rfl rfl)
theorem dX6_callsBy_14 : decode cX6_callsBy 14 = .ok (.aload_n 0, 1) := dk_42 (dk_at dksX6_callsBy_0 14 rfl rfl)
theorem dX6_callsBy_15 : decode cX6_callsBy 15 = .ok (.invokevirtual 281, 3) := dk_182 1 25 (dk_at dksX6_callsBy_0 15 rfl rfl)
theorem dX6_callsBy_18 : decode cX6_callsBy 18 = .ok (.istore_n 1, 1) := dk_60 (dk_at dksX6_callsBy_0 18 rfl rfl)
theorem dX6_callsBy_19 : decode cX6_callsBy 19 = .ok (.aload_n 0, 1) := dk_42 (dk_at dksX6_callsBy_0 19 rfl rfl)
theorem dX6_callsBy_20 : decode cX6_callsBy 20 = .ok (.getfield 62, 3) := dk_180 0 62 (dk_at dksX6_callsBy_0 20 rfl rfl)
theorem dX6_callsBy_23 : decode cX6_callsBy 23 = .ok (.iconst 2, 1) := dk_5 (dk_at dksX6_callsBy_0 23 rfl rfl)
theorem dX6_callsBy_24 : decode cX6_callsBy 24 = .ok (.dup2, 1) := dk_92 (dk_at dksX6_callsBy_1 0 rfl rfl)
theorem dX6_callsBy_25 : decode cX6_callsBy 25 = .ok (.iaload, 1) := dk_46 (dk_at dksX6_callsBy_1 1 rfl rfl)
theorem dX6_callsBy_26 : decode cX6_callsBy 26 = .ok (.aload_n 0, 1) := dk_42 (dk_at dksX6_callsBy_1 2 rfl rfl)
theorem dX6_callsBy_27 : decode cX6_callsBy 27 = .ok (.invokevirtual 315, 3) := dk_182 1 59 (dk_at dksX6_callsBy_1 3 rfl rfl)
theorem dX6_callsBy_30 : decode cX6_callsBy 30 = .ok (.invokestatic 305, 3) := dk_184 1 49 (dk_at dksX6_callsBy_1 6 rfl rfl)
theorem dX6_callsBy_33 : decode cX6_callsBy 33 = .ok (.iadd, 1) := dk_96 (dk_at dksX6_callsBy_1 9 rfl rfl)
theorem dX6_callsBy_34 : decode cX6_callsBy 34 = .ok (.iastore, 1) := dk_79 (dk_at dksX6_callsBy_1 10 rfl rfl)
theorem dX6_callsBy_35 : decode cX6_callsBy 35 = .ok (.aload_n 0, 1) := dk_42 (dk_at dksX6_callsBy_1 11 rfl rfl)
theorem dX6_callsBy_36 : decode cX6_callsBy 36 = .ok (.getfield 62, 3) := dk_180 0 62 (dk_at dksX6_callsBy_1 12 rfl rfl)
theorem dX6_callsBy_39 : decode cX6_callsBy 39 = .ok (.iconst 1, 1) := dk_4 (dk_at dksX6_callsBy_1 15 rfl rfl)
theorem dX6_callsBy_40 : decode cX6_callsBy 40 = .ok (.dup2, 1) := dk_92 (dk_at dksX6_callsBy_1 16 rfl rfl)
theorem dX6_callsBy_41 : decode cX6_callsBy 41 = .ok (.iaload, 1) := dk_46 (dk_at dksX6_callsBy_1 17 rfl rfl)
theorem dX6_callsBy_42 : decode cX6_callsBy 42 = .ok (.iconst 1, 1) := dk_4 (dk_at dksX6_callsBy_1 18 rfl rfl)
theorem dX6_callsBy_43 : decode cX6_callsBy 43 = .ok (.iadd, 1) := dk_96 (dk_at dksX6_callsBy_1 19 rfl rfl)
theorem dX6_callsBy_44 : decode cX6_callsBy 44 = .ok (.iastore, 1) := dk_79 (dk_at dksX6_callsBy_1 20 rfl rfl)
theorem dX6_callsBy_45 : decode cX6_callsBy 45 = .ok (.aload_n 0, 1) := dk_42 (dk_at dksX6_callsBy_1 21 rfl rfl)
theorem dX6_callsBy_46 : decode cX6_callsBy 46 = .ok (.getfield 62, 3) := dk_180 0 62 (dk_at dksX6_callsBy_2 0 rfl rfl)
theorem dX6_callsBy_49 : decode cX6_callsBy 49 = .ok (.iconst 3, 1) := dk_6 (dk_at dksX6_callsBy_2 3 rfl rfl)
theorem dX6_callsBy_50 : decode cX6_callsBy 50 = .ok (.dup2, 1) := dk_92 (dk_at dksX6_callsBy_2 4 rfl rfl)
theorem dX6_callsBy_51 : decode cX6_callsBy 51 = .ok (.iaload, 1) := dk_46 (dk_at dksX6_callsBy_2 5 rfl rfl)
theorem dX6_callsBy_52 : decode cX6_callsBy 52 = .ok (.aload_n 0, 1) := dk_42 (dk_at dksX6_callsBy_2 6 rfl rfl)
theorem dX6_callsBy_53 : decode cX6_callsBy 53 = .ok (.invokevirtual 281, 3) := dk_182 1 25 (dk_at dksX6_callsBy_2 7 rfl rfl)
theorem dX6_callsBy_56 : decode cX6_callsBy 56 = .ok (.iload_n 1, 1) := dk_27 (dk_at dksX6_callsBy_2 10 rfl rfl)
theorem dX6_callsBy_57 : decode cX6_callsBy 57 = .ok (.isub, 1) := dk_100 (dk_at dksX6_callsBy_2 11 rfl rfl)
theorem dX6_callsBy_58 : decode cX6_callsBy 58 = .ok (.iadd, 1) := dk_96 (dk_at dksX6_callsBy_2 12 rfl rfl)
theorem dX6_callsBy_59 : decode cX6_callsBy 59 = .ok (.iastore, 1) := dk_79 (dk_at dksX6_callsBy_2 13 rfl rfl)
theorem dX6_callsBy_60 : decode cX6_callsBy 60 = .ok (.iconst 1, 1) := dk_4 (dk_at dksX6_callsBy_2 14 rfl rfl)
theorem dX6_callsBy_61 : decode cX6_callsBy 61 = .ok (.ireturn, 1) := dk_172 (dk_at dksX6_callsBy_2 15 rfl rfl)
abbrev cX6_draw : ByteArray := prog_15_method_135_code
def yX6_draw : MethodName := ⟨RX6, "draw", "(I)I"⟩
def dkwX6_draw_1 : List UInt8 := [16, 8, 108, 27, 112, 172]
abbrev dktX6_draw_1 : List UInt8 := dkwX6_draw_1 ++ []
def dkwX6_draw_0 : List UInt8 := [42, 42, 180, 1, 150, 17, 12, 95, 104, 17, 44, 119, 96, 19, 1, 153, 112, 181, 1, 150, 42, 180, 1, 150]
abbrev dktX6_draw_0 : List UInt8 := dkwX6_draw_0 ++ dktX6_draw_1
theorem dksX6_draw_0 : cX6_draw.data.toList.drop 0 = dktX6_draw_0 := by decide +kernel
theorem dksX6_draw_1 : cX6_draw.data.toList.drop 24 = dktX6_draw_1 := dk_seg dksX6_draw_0 24 rfl rfl
theorem dX6_draw_0 : decode cX6_draw 0 = .ok (.aload_n 0, 1) := dk_42 (dk_at dksX6_draw_0 0 rfl rfl)
theorem dX6_draw_1 : decode cX6_draw 1 = .ok (.aload_n 0, 1) := dk_42 (dk_at dksX6_draw_0 1 rfl rfl)
theorem dX6_draw_2 : decode cX6_draw 2 = .ok (.getfield 406, 3) := dk_180 1 150 (dk_at dksX6_draw_0 2 rfl rfl)
theorem dX6_draw_5 : decode cX6_draw 5 = .ok (.sipush 3167, 3) := dk_17 12 95 (dk_at dksX6_draw_0 5 rfl rfl)
theorem dX6_draw_8 : decode cX6_draw 8 = .ok (.imul, 1) := dk_104 (dk_at dksX6_draw_0 8 rfl rfl)
theorem dX6_draw_9 : decode cX6_draw 9 = .ok (.sipush 11383, 3) := dk_17 44 119 (dk_at dksX6_draw_0 9 rfl rfl)
theorem dX6_draw_12 : decode cX6_draw 12 = .ok (.iadd, 1) := dk_96 (dk_at dksX6_draw_0 12 rfl rfl)
theorem dX6_draw_13 : decode cX6_draw 13 = .ok (.ldc_w 409, 3) := dk_19 1 153 (dk_at dksX6_draw_0 13 rfl rfl)
theorem dX6_draw_16 : decode cX6_draw 16 = .ok (.irem, 1) := dk_112 (dk_at dksX6_draw_0 16 rfl rfl)
theorem dX6_draw_17 : decode cX6_draw 17 = .ok (.putfield 406, 3) := dk_181 1 150 (dk_at dksX6_draw_0 17 rfl rfl)
theorem dX6_draw_20 : decode cX6_draw 20 = .ok (.aload_n 0, 1) := dk_42 (dk_at dksX6_draw_0 20 rfl rfl)
theorem dX6_draw_21 : decode cX6_draw 21 = .ok (.getfield 406, 3) := dk_180 1 150 (dk_at dksX6_draw_0 21 rfl rfl)
theorem dX6_draw_24 : decode cX6_draw 24 = .ok (.bipush 8, 2) := dk_16 8 (dk_at dksX6_draw_1 0 rfl rfl)
theorem dX6_draw_26 : decode cX6_draw 26 = .ok (.idiv, 1) := dk_108 (dk_at dksX6_draw_1 2 rfl rfl)
theorem dX6_draw_27 : decode cX6_draw 27 = .ok (.iload_n 1, 1) := dk_27 (dk_at dksX6_draw_1 3 rfl rfl)
theorem dX6_draw_28 : decode cX6_draw 28 = .ok (.irem, 1) := dk_112 (dk_at dksX6_draw_1 4 rfl rfl)
theorem dX6_draw_29 : decode cX6_draw 29 = .ok (.ireturn, 1) := dk_172 (dk_at dksX6_draw_1 5 rfl rfl)
abbrev cX6_holds : ByteArray := prog_15_method_138_code
def yX6_holds : MethodName := ⟨RX6, "holds", "(I)Z"⟩
def dkwX6_holds_6 : List UInt8 := [4, 167, 0, 4, 3, 172]
abbrev dktX6_holds_6 : List UInt8 := dkwX6_holds_6 ++ []
def dkwX6_holds_5 : List UInt8 := [164, 0, 7, 4, 167, 0, 25, 3, 167, 0, 21, 21, 4, 42, 180, 0, 7, 27, 5, 96, 46, 160, 0, 7]
abbrev dktX6_holds_5 : List UInt8 := dkwX6_holds_5 ++ dktX6_holds_6
def dkwX6_holds_4 : List UInt8 := [42, 180, 0, 7, 27, 8, 96, 46, 16, 62, 160, 0, 24, 21, 4, 42, 180, 0, 7, 27, 5, 96, 46]
abbrev dktX6_holds_4 : List UInt8 := dkwX6_holds_4 ++ dktX6_holds_5
def dkwX6_holds_3 : List UInt8 := [160, 0, 24, 21, 4, 42, 180, 0, 7, 27, 5, 96, 46, 162, 0, 7, 4, 167, 0, 59, 3, 167, 0, 55]
abbrev dktX6_holds_3 : List UInt8 := dkwX6_holds_3 ++ dktX6_holds_4
def dkwX6_holds_2 : List UInt8 := [182, 1, 7, 172, 42, 29, 3, 182, 1, 10, 54, 4, 42, 180, 0, 7, 27, 8, 96, 46, 16, 60]
abbrev dktX6_holds_2 : List UInt8 := dkwX6_holds_2 ++ dktX6_holds_3
def dkwX6_holds_1 : List UInt8 := [160, 0, 9, 42, 29, 182, 1, 40, 172, 28, 16, 21, 160, 0, 16, 42, 42, 180, 0, 7, 16, 6, 46, 29]
abbrev dktX6_holds_1 : List UInt8 := dkwX6_holds_1 ++ dktX6_holds_2
def dkwX6_holds_0 : List UInt8 := [42, 180, 0, 7, 27, 46, 17, 6, 164, 100, 61, 42, 180, 0, 7, 27, 4, 96, 46, 62, 28, 16, 9]
abbrev dktX6_holds_0 : List UInt8 := dkwX6_holds_0 ++ dktX6_holds_1
theorem dksX6_holds_0 : cX6_holds.data.toList.drop 0 = dktX6_holds_0 := by decide +kernel
theorem dksX6_holds_1 : cX6_holds.data.toList.drop 23 = dktX6_holds_1 := dk_seg dksX6_holds_0 23 rfl rfl
theorem dksX6_holds_2 : cX6_holds.data.toList.drop 47 = dktX6_holds_2 := dk_seg dksX6_holds_1 24 rfl rfl
theorem dksX6_holds_3 : cX6_holds.data.toList.drop 69 = dktX6_holds_3 := dk_seg dksX6_holds_2 22 rfl rfl
theorem dksX6_holds_4 : cX6_holds.data.toList.drop 93 = dktX6_holds_4 := dk_seg dksX6_holds_3 24 rfl rfl
theorem dksX6_holds_5 : cX6_holds.data.toList.drop 116 = dktX6_holds_5 := dk_seg dksX6_holds_4 23 rfl rfl
theorem dksX6_holds_6 : cX6_holds.data.toList.drop 140 = dktX6_holds_6 := dk_seg dksX6_holds_5 24 rfl rfl
theorem dX6_holds_0 : decode cX6_holds 0 = .ok (.aload_n 0, 1) := dk_42 (dk_at dksX6_holds_0 0 rfl rfl)
theorem dX6_holds_1 : decode cX6_holds 1 = .ok (.getfield 7, 3) := dk_180 0 7 (dk_at dksX6_holds_0 1 rfl rfl)
theorem dX6_holds_4 : decode cX6_holds 4 = .ok (.iload_n 1, 1) := dk_27 (dk_at dksX6_holds_0 4 rfl rfl)
theorem dX6_holds_5 : decode cX6_holds 5 = .ok (.iaload, 1) := dk_46 (dk_at dksX6_holds_0 5 rfl rfl)
theorem dX6_holds_6 : decode cX6_holds 6 = .ok (.sipush 1700, 3) := dk_17 6 164 (dk_at dksX6_holds_0 6 rfl rfl)
theorem dX6_holds_9 : decode cX6_holds 9 = .ok (.isub, 1) := dk_100 (dk_at dksX6_holds_0 9 rfl rfl)
theorem dX6_holds_10 : decode cX6_holds 10 = .ok (.istore_n 2, 1) := dk_61 (dk_at dksX6_holds_0 10 rfl rfl)
theorem dX6_holds_11 : decode cX6_holds 11 = .ok (.aload_n 0, 1) := dk_42 (dk_at dksX6_holds_0 11 rfl rfl)
theorem dX6_holds_12 : decode cX6_holds 12 = .ok (.getfield 7, 3) := dk_180 0 7 (dk_at dksX6_holds_0 12 rfl rfl)
theorem dX6_holds_15 : decode cX6_holds 15 = .ok (.iload_n 1, 1) := dk_27 (dk_at dksX6_holds_0 15 rfl rfl)
theorem dX6_holds_16 : decode cX6_holds 16 = .ok (.iconst 1, 1) := dk_4 (dk_at dksX6_holds_0 16 rfl rfl)
theorem dX6_holds_17 : decode cX6_holds 17 = .ok (.iadd, 1) := dk_96 (dk_at dksX6_holds_0 17 rfl rfl)
theorem dX6_holds_18 : decode cX6_holds 18 = .ok (.iaload, 1) := dk_46 (dk_at dksX6_holds_0 18 rfl rfl)
theorem dX6_holds_19 : decode cX6_holds 19 = .ok (.istore_n 3, 1) := dk_62 (dk_at dksX6_holds_0 19 rfl rfl)
theorem dX6_holds_20 : decode cX6_holds 20 = .ok (.iload_n 2, 1) := dk_28 (dk_at dksX6_holds_0 20 rfl rfl)
theorem dX6_holds_21 : decode cX6_holds 21 = .ok (.bipush 9, 2) := dk_16 9 (dk_at dksX6_holds_0 21 rfl rfl)
theorem dX6_holds_23 : decode cX6_holds 23 = .ok (.if_icmp .ne 9, 3) := dk_160 0 9 (dk_at dksX6_holds_1 0 rfl rfl)
theorem dX6_holds_26 : decode cX6_holds 26 = .ok (.aload_n 0, 1) := dk_42 (dk_at dksX6_holds_1 3 rfl rfl)
theorem dX6_holds_27 : decode cX6_holds 27 = .ok (.iload_n 3, 1) := dk_29 (dk_at dksX6_holds_1 4 rfl rfl)
theorem dX6_holds_28 : decode cX6_holds 28 = .ok (.invokevirtual 296, 3) := dk_182 1 40 (dk_at dksX6_holds_1 5 rfl rfl)
theorem dX6_holds_31 : decode cX6_holds 31 = .ok (.ireturn, 1) := dk_172 (dk_at dksX6_holds_1 8 rfl rfl)
theorem dX6_holds_32 : decode cX6_holds 32 = .ok (.iload_n 2, 1) := dk_28 (dk_at dksX6_holds_1 9 rfl rfl)
theorem dX6_holds_33 : decode cX6_holds 33 = .ok (.bipush 21, 2) := dk_16 21 (dk_at dksX6_holds_1 10 rfl rfl)
theorem dX6_holds_35 : decode cX6_holds 35 = .ok (.if_icmp .ne 16, 3) := dk_160 0 16 (dk_at dksX6_holds_1 12 rfl rfl)
theorem dX6_holds_38 : decode cX6_holds 38 = .ok (.aload_n 0, 1) := dk_42 (dk_at dksX6_holds_1 15 rfl rfl)
theorem dX6_holds_39 : decode cX6_holds 39 = .ok (.aload_n 0, 1) := dk_42 (dk_at dksX6_holds_1 16 rfl rfl)
theorem dX6_holds_40 : decode cX6_holds 40 = .ok (.getfield 7, 3) := dk_180 0 7 (dk_at dksX6_holds_1 17 rfl rfl)
theorem dX6_holds_43 : decode cX6_holds 43 = .ok (.bipush 6, 2) := dk_16 6 (dk_at dksX6_holds_1 20 rfl rfl)
theorem dX6_holds_45 : decode cX6_holds 45 = .ok (.iaload, 1) := dk_46 (dk_at dksX6_holds_1 22 rfl rfl)
theorem dX6_holds_46 : decode cX6_holds 46 = .ok (.iload_n 3, 1) := dk_29 (dk_at dksX6_holds_1 23 rfl rfl)
theorem dX6_holds_47 : decode cX6_holds 47 = .ok (.invokevirtual 263, 3) := dk_182 1 7 (dk_at dksX6_holds_2 0 rfl rfl)
theorem dX6_holds_50 : decode cX6_holds 50 = .ok (.ireturn, 1) := dk_172 (dk_at dksX6_holds_2 3 rfl rfl)
theorem dX6_holds_51 : decode cX6_holds 51 = .ok (.aload_n 0, 1) := dk_42 (dk_at dksX6_holds_2 4 rfl rfl)
theorem dX6_holds_52 : decode cX6_holds 52 = .ok (.iload_n 3, 1) := dk_29 (dk_at dksX6_holds_2 5 rfl rfl)
theorem dX6_holds_53 : decode cX6_holds 53 = .ok (.iconst 0, 1) := dk_3 (dk_at dksX6_holds_2 6 rfl rfl)
theorem dX6_holds_54 : decode cX6_holds 54 = .ok (.invokevirtual 266, 3) := dk_182 1 10 (dk_at dksX6_holds_2 7 rfl rfl)
theorem dX6_holds_57 : decode cX6_holds 57 = .ok (.istore 4, 2) := dk_54 4 (dk_at dksX6_holds_2 10 rfl rfl)
theorem dX6_holds_59 : decode cX6_holds 59 = .ok (.aload_n 0, 1) := dk_42 (dk_at dksX6_holds_2 12 rfl rfl)
theorem dX6_holds_60 : decode cX6_holds 60 = .ok (.getfield 7, 3) := dk_180 0 7 (dk_at dksX6_holds_2 13 rfl rfl)
theorem dX6_holds_63 : decode cX6_holds 63 = .ok (.iload_n 1, 1) := dk_27 (dk_at dksX6_holds_2 16 rfl rfl)
theorem dX6_holds_64 : decode cX6_holds 64 = .ok (.iconst 5, 1) := dk_8 (dk_at dksX6_holds_2 17 rfl rfl)
theorem dX6_holds_65 : decode cX6_holds 65 = .ok (.iadd, 1) := dk_96 (dk_at dksX6_holds_2 18 rfl rfl)
theorem dX6_holds_66 : decode cX6_holds 66 = .ok (.iaload, 1) := dk_46 (dk_at dksX6_holds_2 19 rfl rfl)
theorem dX6_holds_67 : decode cX6_holds 67 = .ok (.bipush 60, 2) := dk_16 60 (dk_at dksX6_holds_2 20 rfl rfl)
theorem dX6_holds_69 : decode cX6_holds 69 = .ok (.if_icmp .ne 24, 3) := dk_160 0 24 (dk_at dksX6_holds_3 0 rfl rfl)
theorem dX6_holds_72 : decode cX6_holds 72 = .ok (.iload 4, 2) := dk_21 4 (dk_at dksX6_holds_3 3 rfl rfl)
theorem dX6_holds_74 : decode cX6_holds 74 = .ok (.aload_n 0, 1) := dk_42 (dk_at dksX6_holds_3 5 rfl rfl)
theorem dX6_holds_75 : decode cX6_holds 75 = .ok (.getfield 7, 3) := dk_180 0 7 (dk_at dksX6_holds_3 6 rfl rfl)
theorem dX6_holds_78 : decode cX6_holds 78 = .ok (.iload_n 1, 1) := dk_27 (dk_at dksX6_holds_3 9 rfl rfl)
theorem dX6_holds_79 : decode cX6_holds 79 = .ok (.iconst 2, 1) := dk_5 (dk_at dksX6_holds_3 10 rfl rfl)
theorem dX6_holds_80 : decode cX6_holds 80 = .ok (.iadd, 1) := dk_96 (dk_at dksX6_holds_3 11 rfl rfl)
theorem dX6_holds_81 : decode cX6_holds 81 = .ok (.iaload, 1) := dk_46 (dk_at dksX6_holds_3 12 rfl rfl)
theorem dX6_holds_82 : decode cX6_holds 82 = .ok (.if_icmp .ge 7, 3) := dk_162 0 7 (dk_at dksX6_holds_3 13 rfl rfl)
theorem dX6_holds_85 : decode cX6_holds 85 = .ok (.iconst 1, 1) := dk_4 (dk_at dksX6_holds_3 16 rfl rfl)
theorem dX6_holds_86 : decode cX6_holds 86 = .ok (.goto 59, 3) := dk_167 0 59 (dk_at dksX6_holds_3 17 rfl rfl)
theorem dX6_holds_89 : decode cX6_holds 89 = .ok (.iconst 0, 1) := dk_3 (dk_at dksX6_holds_3 20 rfl rfl)
theorem dX6_holds_90 : decode cX6_holds 90 = .ok (.goto 55, 3) := dk_167 0 55 (dk_at dksX6_holds_3 21 rfl rfl)
theorem dX6_holds_93 : decode cX6_holds 93 = .ok (.aload_n 0, 1) := dk_42 (dk_at dksX6_holds_4 0 rfl rfl)
theorem dX6_holds_94 : decode cX6_holds 94 = .ok (.getfield 7, 3) := dk_180 0 7 (dk_at dksX6_holds_4 1 rfl rfl)
theorem dX6_holds_97 : decode cX6_holds 97 = .ok (.iload_n 1, 1) := dk_27 (dk_at dksX6_holds_4 4 rfl rfl)
theorem dX6_holds_98 : decode cX6_holds 98 = .ok (.iconst 5, 1) := dk_8 (dk_at dksX6_holds_4 5 rfl rfl)
theorem dX6_holds_99 : decode cX6_holds 99 = .ok (.iadd, 1) := dk_96 (dk_at dksX6_holds_4 6 rfl rfl)
theorem dX6_holds_100 : decode cX6_holds 100 = .ok (.iaload, 1) := dk_46 (dk_at dksX6_holds_4 7 rfl rfl)
theorem dX6_holds_101 : decode cX6_holds 101 = .ok (.bipush 62, 2) := dk_16 62 (dk_at dksX6_holds_4 8 rfl rfl)
theorem dX6_holds_103 : decode cX6_holds 103 = .ok (.if_icmp .ne 24, 3) := dk_160 0 24 (dk_at dksX6_holds_4 10 rfl rfl)
theorem dX6_holds_106 : decode cX6_holds 106 = .ok (.iload 4, 2) := dk_21 4 (dk_at dksX6_holds_4 13 rfl rfl)
theorem dX6_holds_108 : decode cX6_holds 108 = .ok (.aload_n 0, 1) := dk_42 (dk_at dksX6_holds_4 15 rfl rfl)
theorem dX6_holds_109 : decode cX6_holds 109 = .ok (.getfield 7, 3) := dk_180 0 7 (dk_at dksX6_holds_4 16 rfl rfl)
theorem dX6_holds_112 : decode cX6_holds 112 = .ok (.iload_n 1, 1) := dk_27 (dk_at dksX6_holds_4 19 rfl rfl)
theorem dX6_holds_113 : decode cX6_holds 113 = .ok (.iconst 2, 1) := dk_5 (dk_at dksX6_holds_4 20 rfl rfl)
theorem dX6_holds_114 : decode cX6_holds 114 = .ok (.iadd, 1) := dk_96 (dk_at dksX6_holds_4 21 rfl rfl)
theorem dX6_holds_115 : decode cX6_holds 115 = .ok (.iaload, 1) := dk_46 (dk_at dksX6_holds_4 22 rfl rfl)
theorem dX6_holds_116 : decode cX6_holds 116 = .ok (.if_icmp .le 7, 3) := dk_164 0 7 (dk_at dksX6_holds_5 0 rfl rfl)
theorem dX6_holds_119 : decode cX6_holds 119 = .ok (.iconst 1, 1) := dk_4 (dk_at dksX6_holds_5 3 rfl rfl)
theorem dX6_holds_120 : decode cX6_holds 120 = .ok (.goto 25, 3) := dk_167 0 25 (dk_at dksX6_holds_5 4 rfl rfl)
theorem dX6_holds_123 : decode cX6_holds 123 = .ok (.iconst 0, 1) := dk_3 (dk_at dksX6_holds_5 7 rfl rfl)
theorem dX6_holds_124 : decode cX6_holds 124 = .ok (.goto 21, 3) := dk_167 0 21 (dk_at dksX6_holds_5 8 rfl rfl)
theorem dX6_holds_127 : decode cX6_holds 127 = .ok (.iload 4, 2) := dk_21 4 (dk_at dksX6_holds_5 11 rfl rfl)
theorem dX6_holds_129 : decode cX6_holds 129 = .ok (.aload_n 0, 1) := dk_42 (dk_at dksX6_holds_5 13 rfl rfl)
theorem dX6_holds_130 : decode cX6_holds 130 = .ok (.getfield 7, 3) := dk_180 0 7 (dk_at dksX6_holds_5 14 rfl rfl)
theorem dX6_holds_133 : decode cX6_holds 133 = .ok (.iload_n 1, 1) := dk_27 (dk_at dksX6_holds_5 17 rfl rfl)
theorem dX6_holds_134 : decode cX6_holds 134 = .ok (.iconst 2, 1) := dk_5 (dk_at dksX6_holds_5 18 rfl rfl)
theorem dX6_holds_135 : decode cX6_holds 135 = .ok (.iadd, 1) := dk_96 (dk_at dksX6_holds_5 19 rfl rfl)
theorem dX6_holds_136 : decode cX6_holds 136 = .ok (.iaload, 1) := dk_46 (dk_at dksX6_holds_5 20 rfl rfl)
theorem dX6_holds_137 : decode cX6_holds 137 = .ok (.if_icmp .ne 7, 3) := dk_160 0 7 (dk_at dksX6_holds_5 21 rfl rfl)
theorem dX6_holds_140 : decode cX6_holds 140 = .ok (.iconst 1, 1) := dk_4 (dk_at dksX6_holds_6 0 rfl rfl)
theorem dX6_holds_141 : decode cX6_holds 141 = .ok (.goto 4, 3) := dk_167 0 4 (dk_at dksX6_holds_6 1 rfl rfl)
theorem dX6_holds_144 : decode cX6_holds 144 = .ok (.iconst 0, 1) := dk_3 (dk_at dksX6_holds_6 4 rfl rfl)
theorem dX6_holds_145 : decode cX6_holds 145 = .ok (.ireturn, 1) := dk_172 (dk_at dksX6_holds_6 5 rfl rfl)
abbrev cX6_behindEnds : ByteArray := prog_15_method_139_code
def yX6_behindEnds : MethodName := ⟨RX6, "behindEnds", "(I)I"⟩
def dkwX6_behindEnds_5 : List UInt8 := [28, 172]
abbrev dktX6_behindEnds_5 : List UInt8 := dkwX6_behindEnds_5 ++ []
def dkwX6_behindEnds_4 : List UInt8 := [167, 0, 4, 3, 100, 79, 21, 4, 153, 0, 9, 29, 4, 96, 167, 0, 6, 28, 4, 96, 61, 167, 255, 146]
abbrev dktX6_behindEnds_4 : List UInt8 := dkwX6_behindEnds_4 ++ dktX6_behindEnds_5
def dkwX6_behindEnds_3 : List UInt8 := [158, 0, 7, 4, 167, 0, 4, 3, 54, 4, 42, 180, 0, 59, 29, 92, 46, 21, 4, 153, 0, 7, 4]
abbrev dktX6_behindEnds_3 : List UInt8 := dkwX6_behindEnds_3 ++ dktX6_behindEnds_4
def dkwX6_behindEnds_2 : List UInt8 := [180, 0, 7, 16, 48, 16, 6, 29, 104, 96, 46, 16, 18, 160, 0, 16, 42, 180, 0, 59, 29, 46]
abbrev dktX6_behindEnds_2 : List UInt8 := dkwX6_behindEnds_2 ++ dktX6_behindEnds_3
def dkwX6_behindEnds_1 : List UInt8 := [46, 16, 19, 160, 0, 88, 42, 180, 0, 7, 16, 48, 16, 6, 28, 104, 96, 7, 96, 46, 62, 42]
abbrev dktX6_behindEnds_1 : List UInt8 := dkwX6_behindEnds_1 ++ dktX6_behindEnds_2
def dkwX6_behindEnds_0 : List UInt8 := [27, 61, 28, 42, 180, 0, 7, 16, 8, 46, 162, 0, 105, 42, 180, 0, 7, 16, 48, 16, 6, 28, 104, 96]
abbrev dktX6_behindEnds_0 : List UInt8 := dkwX6_behindEnds_0 ++ dktX6_behindEnds_1
theorem dksX6_behindEnds_0 : cX6_behindEnds.data.toList.drop 0 = dktX6_behindEnds_0 := by decide +kernel
theorem dksX6_behindEnds_1 : cX6_behindEnds.data.toList.drop 24 = dktX6_behindEnds_1 := dk_seg dksX6_behindEnds_0 24 rfl rfl
theorem dksX6_behindEnds_2 : cX6_behindEnds.data.toList.drop 46 = dktX6_behindEnds_2 := dk_seg dksX6_behindEnds_1 22 rfl rfl
theorem dksX6_behindEnds_3 : cX6_behindEnds.data.toList.drop 68 = dktX6_behindEnds_3 := dk_seg dksX6_behindEnds_2 22 rfl rfl
theorem dksX6_behindEnds_4 : cX6_behindEnds.data.toList.drop 91 = dktX6_behindEnds_4 := dk_seg dksX6_behindEnds_3 23 rfl rfl
theorem dksX6_behindEnds_5 : cX6_behindEnds.data.toList.drop 115 = dktX6_behindEnds_5 := dk_seg dksX6_behindEnds_4 24 rfl rfl
theorem dX6_behindEnds_0 : decode cX6_behindEnds 0 = .ok (.iload_n 1, 1) := dk_27 (dk_at dksX6_behindEnds_0 0 rfl rfl)
theorem dX6_behindEnds_1 : decode cX6_behindEnds 1 = .ok (.istore_n 2, 1) := dk_61 (dk_at dksX6_behindEnds_0 1 rfl rfl)
theorem dX6_behindEnds_2 : decode cX6_behindEnds 2 = .ok (.iload_n 2, 1) := dk_28 (dk_at dksX6_behindEnds_0 2 rfl rfl)
theorem dX6_behindEnds_3 : decode cX6_behindEnds 3 = .ok (.aload_n 0, 1) := dk_42 (dk_at dksX6_behindEnds_0 3 rfl rfl)
theorem dX6_behindEnds_4 : decode cX6_behindEnds 4 = .ok (.getfield 7, 3) := dk_180 0 7 (dk_at dksX6_behindEnds_0 4 rfl rfl)
theorem dX6_behindEnds_7 : decode cX6_behindEnds 7 = .ok (.bipush 8, 2) := dk_16 8 (dk_at dksX6_behindEnds_0 7 rfl rfl)
theorem dX6_behindEnds_9 : decode cX6_behindEnds 9 = .ok (.iaload, 1) := dk_46 (dk_at dksX6_behindEnds_0 9 rfl rfl)
theorem dX6_behindEnds_10 : decode cX6_behindEnds 10 = .ok (.if_icmp .ge 105, 3) := dk_162 0 105 (dk_at dksX6_behindEnds_0 10 rfl rfl)
theorem dX6_behindEnds_13 : decode cX6_behindEnds 13 = .ok (.aload_n 0, 1) := dk_42 (dk_at dksX6_behindEnds_0 13 rfl rfl)
theorem dX6_behindEnds_14 : decode cX6_behindEnds 14 = .ok (.getfield 7, 3) := dk_180 0 7 (dk_at dksX6_behindEnds_0 14 rfl rfl)
theorem dX6_behindEnds_17 : decode cX6_behindEnds 17 = .ok (.bipush 48, 2) := dk_16 48 (dk_at dksX6_behindEnds_0 17 rfl rfl)
theorem dX6_behindEnds_19 : decode cX6_behindEnds 19 = .ok (.bipush 6, 2) := dk_16 6 (dk_at dksX6_behindEnds_0 19 rfl rfl)
theorem dX6_behindEnds_21 : decode cX6_behindEnds 21 = .ok (.iload_n 2, 1) := dk_28 (dk_at dksX6_behindEnds_0 21 rfl rfl)
theorem dX6_behindEnds_22 : decode cX6_behindEnds 22 = .ok (.imul, 1) := dk_104 (dk_at dksX6_behindEnds_0 22 rfl rfl)
theorem dX6_behindEnds_23 : decode cX6_behindEnds 23 = .ok (.iadd, 1) := dk_96 (dk_at dksX6_behindEnds_0 23 rfl rfl)
theorem dX6_behindEnds_24 : decode cX6_behindEnds 24 = .ok (.iaload, 1) := dk_46 (dk_at dksX6_behindEnds_1 0 rfl rfl)
theorem dX6_behindEnds_25 : decode cX6_behindEnds 25 = .ok (.bipush 19, 2) := dk_16 19 (dk_at dksX6_behindEnds_1 1 rfl rfl)
theorem dX6_behindEnds_27 : decode cX6_behindEnds 27 = .ok (.if_icmp .ne 88, 3) := dk_160 0 88 (dk_at dksX6_behindEnds_1 3 rfl rfl)
theorem dX6_behindEnds_30 : decode cX6_behindEnds 30 = .ok (.aload_n 0, 1) := dk_42 (dk_at dksX6_behindEnds_1 6 rfl rfl)
theorem dX6_behindEnds_31 : decode cX6_behindEnds 31 = .ok (.getfield 7, 3) := dk_180 0 7 (dk_at dksX6_behindEnds_1 7 rfl rfl)
theorem dX6_behindEnds_34 : decode cX6_behindEnds 34 = .ok (.bipush 48, 2) := dk_16 48 (dk_at dksX6_behindEnds_1 10 rfl rfl)
theorem dX6_behindEnds_36 : decode cX6_behindEnds 36 = .ok (.bipush 6, 2) := dk_16 6 (dk_at dksX6_behindEnds_1 12 rfl rfl)
theorem dX6_behindEnds_38 : decode cX6_behindEnds 38 = .ok (.iload_n 2, 1) := dk_28 (dk_at dksX6_behindEnds_1 14 rfl rfl)
theorem dX6_behindEnds_39 : decode cX6_behindEnds 39 = .ok (.imul, 1) := dk_104 (dk_at dksX6_behindEnds_1 15 rfl rfl)
theorem dX6_behindEnds_40 : decode cX6_behindEnds 40 = .ok (.iadd, 1) := dk_96 (dk_at dksX6_behindEnds_1 16 rfl rfl)
theorem dX6_behindEnds_41 : decode cX6_behindEnds 41 = .ok (.iconst 4, 1) := dk_7 (dk_at dksX6_behindEnds_1 17 rfl rfl)
theorem dX6_behindEnds_42 : decode cX6_behindEnds 42 = .ok (.iadd, 1) := dk_96 (dk_at dksX6_behindEnds_1 18 rfl rfl)
theorem dX6_behindEnds_43 : decode cX6_behindEnds 43 = .ok (.iaload, 1) := dk_46 (dk_at dksX6_behindEnds_1 19 rfl rfl)
theorem dX6_behindEnds_44 : decode cX6_behindEnds 44 = .ok (.istore_n 3, 1) := dk_62 (dk_at dksX6_behindEnds_1 20 rfl rfl)
theorem dX6_behindEnds_45 : decode cX6_behindEnds 45 = .ok (.aload_n 0, 1) := dk_42 (dk_at dksX6_behindEnds_1 21 rfl rfl)
theorem dX6_behindEnds_46 : decode cX6_behindEnds 46 = .ok (.getfield 7, 3) := dk_180 0 7 (dk_at dksX6_behindEnds_2 0 rfl rfl)
theorem dX6_behindEnds_49 : decode cX6_behindEnds 49 = .ok (.bipush 48, 2) := dk_16 48 (dk_at dksX6_behindEnds_2 3 rfl rfl)
theorem dX6_behindEnds_51 : decode cX6_behindEnds 51 = .ok (.bipush 6, 2) := dk_16 6 (dk_at dksX6_behindEnds_2 5 rfl rfl)
theorem dX6_behindEnds_53 : decode cX6_behindEnds 53 = .ok (.iload_n 3, 1) := dk_29 (dk_at dksX6_behindEnds_2 7 rfl rfl)
theorem dX6_behindEnds_54 : decode cX6_behindEnds 54 = .ok (.imul, 1) := dk_104 (dk_at dksX6_behindEnds_2 8 rfl rfl)
theorem dX6_behindEnds_55 : decode cX6_behindEnds 55 = .ok (.iadd, 1) := dk_96 (dk_at dksX6_behindEnds_2 9 rfl rfl)
theorem dX6_behindEnds_56 : decode cX6_behindEnds 56 = .ok (.iaload, 1) := dk_46 (dk_at dksX6_behindEnds_2 10 rfl rfl)
theorem dX6_behindEnds_57 : decode cX6_behindEnds 57 = .ok (.bipush 18, 2) := dk_16 18 (dk_at dksX6_behindEnds_2 11 rfl rfl)
theorem dX6_behindEnds_59 : decode cX6_behindEnds 59 = .ok (.if_icmp .ne 16, 3) := dk_160 0 16 (dk_at dksX6_behindEnds_2 13 rfl rfl)
theorem dX6_behindEnds_62 : decode cX6_behindEnds 62 = .ok (.aload_n 0, 1) := dk_42 (dk_at dksX6_behindEnds_2 16 rfl rfl)
theorem dX6_behindEnds_63 : decode cX6_behindEnds 63 = .ok (.getfield 59, 3) := dk_180 0 59 (dk_at dksX6_behindEnds_2 17 rfl rfl)
theorem dX6_behindEnds_66 : decode cX6_behindEnds 66 = .ok (.iload_n 3, 1) := dk_29 (dk_at dksX6_behindEnds_2 20 rfl rfl)
theorem dX6_behindEnds_67 : decode cX6_behindEnds 67 = .ok (.iaload, 1) := dk_46 (dk_at dksX6_behindEnds_2 21 rfl rfl)
theorem dX6_behindEnds_68 : decode cX6_behindEnds 68 = .ok (.ifCond .le 7, 3) := dk_158 0 7 (dk_at dksX6_behindEnds_3 0 rfl rfl)
theorem dX6_behindEnds_71 : decode cX6_behindEnds 71 = .ok (.iconst 1, 1) := dk_4 (dk_at dksX6_behindEnds_3 3 rfl rfl)
theorem dX6_behindEnds_72 : decode cX6_behindEnds 72 = .ok (.goto 4, 3) := dk_167 0 4 (dk_at dksX6_behindEnds_3 4 rfl rfl)
theorem dX6_behindEnds_75 : decode cX6_behindEnds 75 = .ok (.iconst 0, 1) := dk_3 (dk_at dksX6_behindEnds_3 7 rfl rfl)
theorem dX6_behindEnds_76 : decode cX6_behindEnds 76 = .ok (.istore 4, 2) := dk_54 4 (dk_at dksX6_behindEnds_3 8 rfl rfl)
theorem dX6_behindEnds_78 : decode cX6_behindEnds 78 = .ok (.aload_n 0, 1) := dk_42 (dk_at dksX6_behindEnds_3 10 rfl rfl)
theorem dX6_behindEnds_79 : decode cX6_behindEnds 79 = .ok (.getfield 59, 3) := dk_180 0 59 (dk_at dksX6_behindEnds_3 11 rfl rfl)
theorem dX6_behindEnds_82 : decode cX6_behindEnds 82 = .ok (.iload_n 3, 1) := dk_29 (dk_at dksX6_behindEnds_3 14 rfl rfl)
theorem dX6_behindEnds_83 : decode cX6_behindEnds 83 = .ok (.dup2, 1) := dk_92 (dk_at dksX6_behindEnds_3 15 rfl rfl)
theorem dX6_behindEnds_84 : decode cX6_behindEnds 84 = .ok (.iaload, 1) := dk_46 (dk_at dksX6_behindEnds_3 16 rfl rfl)
theorem dX6_behindEnds_85 : decode cX6_behindEnds 85 = .ok (.iload 4, 2) := dk_21 4 (dk_at dksX6_behindEnds_3 17 rfl rfl)
theorem dX6_behindEnds_87 : decode cX6_behindEnds 87 = .ok (.ifCond .eq 7, 3) := dk_153 0 7 (dk_at dksX6_behindEnds_3 19 rfl rfl)
theorem dX6_behindEnds_90 : decode cX6_behindEnds 90 = .ok (.iconst 1, 1) := dk_4 (dk_at dksX6_behindEnds_3 22 rfl rfl)
theorem dX6_behindEnds_91 : decode cX6_behindEnds 91 = .ok (.goto 4, 3) := dk_167 0 4 (dk_at dksX6_behindEnds_4 0 rfl rfl)
theorem dX6_behindEnds_94 : decode cX6_behindEnds 94 = .ok (.iconst 0, 1) := dk_3 (dk_at dksX6_behindEnds_4 3 rfl rfl)
theorem dX6_behindEnds_95 : decode cX6_behindEnds 95 = .ok (.isub, 1) := dk_100 (dk_at dksX6_behindEnds_4 4 rfl rfl)
theorem dX6_behindEnds_96 : decode cX6_behindEnds 96 = .ok (.iastore, 1) := dk_79 (dk_at dksX6_behindEnds_4 5 rfl rfl)
theorem dX6_behindEnds_97 : decode cX6_behindEnds 97 = .ok (.iload 4, 2) := dk_21 4 (dk_at dksX6_behindEnds_4 6 rfl rfl)
theorem dX6_behindEnds_99 : decode cX6_behindEnds 99 = .ok (.ifCond .eq 9, 3) := dk_153 0 9 (dk_at dksX6_behindEnds_4 8 rfl rfl)
theorem dX6_behindEnds_102 : decode cX6_behindEnds 102 = .ok (.iload_n 3, 1) := dk_29 (dk_at dksX6_behindEnds_4 11 rfl rfl)
theorem dX6_behindEnds_103 : decode cX6_behindEnds 103 = .ok (.iconst 1, 1) := dk_4 (dk_at dksX6_behindEnds_4 12 rfl rfl)
theorem dX6_behindEnds_104 : decode cX6_behindEnds 104 = .ok (.iadd, 1) := dk_96 (dk_at dksX6_behindEnds_4 13 rfl rfl)
theorem dX6_behindEnds_105 : decode cX6_behindEnds 105 = .ok (.goto 6, 3) := dk_167 0 6 (dk_at dksX6_behindEnds_4 14 rfl rfl)
theorem dX6_behindEnds_108 : decode cX6_behindEnds 108 = .ok (.iload_n 2, 1) := dk_28 (dk_at dksX6_behindEnds_4 17 rfl rfl)
theorem dX6_behindEnds_109 : decode cX6_behindEnds 109 = .ok (.iconst 1, 1) := dk_4 (dk_at dksX6_behindEnds_4 18 rfl rfl)
theorem dX6_behindEnds_110 : decode cX6_behindEnds 110 = .ok (.iadd, 1) := dk_96 (dk_at dksX6_behindEnds_4 19 rfl rfl)
theorem dX6_behindEnds_111 : decode cX6_behindEnds 111 = .ok (.istore_n 2, 1) := dk_61 (dk_at dksX6_behindEnds_4 20 rfl rfl)
theorem dX6_behindEnds_112 : decode cX6_behindEnds 112 = .ok (.goto (-110), 3) := dk_167 255 146 (dk_at dksX6_behindEnds_4 21 rfl rfl)
theorem dX6_behindEnds_115 : decode cX6_behindEnds 115 = .ok (.iload_n 2, 1) := dk_28 (dk_at dksX6_behindEnds_5 0 rfl rfl)
theorem dX6_behindEnds_116 : decode cX6_behindEnds 116 = .ok (.ireturn, 1) := dk_172 (dk_at dksX6_behindEnds_5 1 rfl rfl)
abbrev cX6_lived : ByteArray := prog_15_method_142_code
def yX6_lived : MethodName := ⟨RX6, "lived", "(I)I"⟩
def dkwX6_lived_1 : List UInt8 := [180, 0, 65, 27, 46, 182, 0, 82, 167, 0, 9, 42, 16, 6, 182, 0, 78, 172]
abbrev dktX6_lived_1 : List UInt8 := dkwX6_lived_1 ++ []
def dkwX6_lived_0 : List UInt8 := [27, 155, 0, 8, 27, 7, 164, 0, 9, 42, 4, 182, 0, 78, 172, 42, 180, 1, 177, 153, 0, 16, 42, 42]
abbrev dktX6_lived_0 : List UInt8 := dkwX6_lived_0 ++ dktX6_lived_1
theorem dksX6_lived_0 : cX6_lived.data.toList.drop 0 = dktX6_lived_0 := by decide +kernel
theorem dksX6_lived_1 : cX6_lived.data.toList.drop 24 = dktX6_lived_1 := dk_seg dksX6_lived_0 24 rfl rfl
theorem dX6_lived_0 : decode cX6_lived 0 = .ok (.iload_n 1, 1) := dk_27 (dk_at dksX6_lived_0 0 rfl rfl)
theorem dX6_lived_1 : decode cX6_lived 1 = .ok (.ifCond .lt 8, 3) := dk_155 0 8 (dk_at dksX6_lived_0 1 rfl rfl)
theorem dX6_lived_4 : decode cX6_lived 4 = .ok (.iload_n 1, 1) := dk_27 (dk_at dksX6_lived_0 4 rfl rfl)
theorem dX6_lived_5 : decode cX6_lived 5 = .ok (.iconst 4, 1) := dk_7 (dk_at dksX6_lived_0 5 rfl rfl)
theorem dX6_lived_6 : decode cX6_lived 6 = .ok (.if_icmp .le 9, 3) := dk_164 0 9 (dk_at dksX6_lived_0 6 rfl rfl)
theorem dX6_lived_9 : decode cX6_lived 9 = .ok (.aload_n 0, 1) := dk_42 (dk_at dksX6_lived_0 9 rfl rfl)
theorem dX6_lived_10 : decode cX6_lived 10 = .ok (.iconst 1, 1) := dk_4 (dk_at dksX6_lived_0 10 rfl rfl)
theorem dX6_lived_11 : decode cX6_lived 11 = .ok (.invokevirtual 78, 3) := dk_182 0 78 (dk_at dksX6_lived_0 11 rfl rfl)
theorem dX6_lived_14 : decode cX6_lived 14 = .ok (.ireturn, 1) := dk_172 (dk_at dksX6_lived_0 14 rfl rfl)
theorem dX6_lived_15 : decode cX6_lived 15 = .ok (.aload_n 0, 1) := dk_42 (dk_at dksX6_lived_0 15 rfl rfl)
theorem dX6_lived_16 : decode cX6_lived 16 = .ok (.getfield 433, 3) := dk_180 1 177 (dk_at dksX6_lived_0 16 rfl rfl)
theorem dX6_lived_19 : decode cX6_lived 19 = .ok (.ifCond .eq 16, 3) := dk_153 0 16 (dk_at dksX6_lived_0 19 rfl rfl)
theorem dX6_lived_22 : decode cX6_lived 22 = .ok (.aload_n 0, 1) := dk_42 (dk_at dksX6_lived_0 22 rfl rfl)
theorem dX6_lived_23 : decode cX6_lived 23 = .ok (.aload_n 0, 1) := dk_42 (dk_at dksX6_lived_0 23 rfl rfl)
theorem dX6_lived_24 : decode cX6_lived 24 = .ok (.getfield 65, 3) := dk_180 0 65 (dk_at dksX6_lived_1 0 rfl rfl)
theorem dX6_lived_27 : decode cX6_lived 27 = .ok (.iload_n 1, 1) := dk_27 (dk_at dksX6_lived_1 3 rfl rfl)
theorem dX6_lived_28 : decode cX6_lived 28 = .ok (.iaload, 1) := dk_46 (dk_at dksX6_lived_1 4 rfl rfl)
theorem dX6_lived_29 : decode cX6_lived 29 = .ok (.invokevirtual 82, 3) := dk_182 0 82 (dk_at dksX6_lived_1 5 rfl rfl)
theorem dX6_lived_32 : decode cX6_lived 32 = .ok (.goto 9, 3) := dk_167 0 9 (dk_at dksX6_lived_1 8 rfl rfl)
theorem dX6_lived_35 : decode cX6_lived 35 = .ok (.aload_n 0, 1) := dk_42 (dk_at dksX6_lived_1 11 rfl rfl)
theorem dX6_lived_36 : decode cX6_lived 36 = .ok (.bipush 6, 2) := dk_16 6 (dk_at dksX6_lived_1 12 rfl rfl)
theorem dX6_lived_38 : decode cX6_lived 38 = .ok (.invokevirtual 78, 3) := dk_182 0 78 (dk_at dksX6_lived_1 14 rfl rfl)
theorem dX6_lived_41 : decode cX6_lived 41 = .ok (.ireturn, 1) := dk_172 (dk_at dksX6_lived_1 17 rfl rfl)
abbrev cX6_mean : ByteArray := prog_15_method_143_code
def yX6_mean : MethodName := ⟨RX6, "mean", "(II)Z"⟩
def dkwX6_mean_5 : List UInt8 := [182, 1, 146, 172]
abbrev dktX6_mean_5 : List UInt8 := dkwX6_mean_5 ++ []
def dkwX6_mean_4 : List UInt8 := [184, 1, 49, 133, 97, 66, 42, 17, 8, 32, 182, 1, 115, 132, 5, 1, 167, 255, 218, 42, 33, 28, 133]
abbrev dktX6_mean_4 : List UInt8 := dkwX6_mean_4 ++ dktX6_mean_5
def dkwX6_mean_3 : List UInt8 := [21, 5, 28, 162, 0, 38, 42, 27, 21, 5, 96, 182, 1, 174, 33, 42, 180, 0, 7, 16, 7, 46]
abbrev dktX6_mean_3 : List UInt8 := dkwX6_mean_3 ++ dktX6_mean_4
def dkwX6_mean_2 : List UInt8 := [2, 160, 0, 10, 42, 16, 6, 182, 0, 85, 172, 42, 17, 8, 32, 182, 1, 109, 9, 66, 3, 54, 5]
abbrev dktX6_mean_2 : List UInt8 := dkwX6_mean_2 ++ dktX6_mean_3
def dkwX6_mean_1 : List UInt8 := [27, 28, 96, 4, 100, 17, 39, 15, 164, 0, 9, 42, 4, 182, 0, 85, 172, 42, 180, 0, 7, 16, 8, 46]
abbrev dktX6_mean_1 : List UInt8 := dkwX6_mean_1 ++ dktX6_mean_2
def dkwX6_mean_0 : List UInt8 := [27, 133, 9, 20, 1, 172, 184, 1, 0, 153, 0, 26, 28, 133, 10, 20, 1, 118, 184, 1, 0, 153, 0, 14]
abbrev dktX6_mean_0 : List UInt8 := dkwX6_mean_0 ++ dktX6_mean_1
theorem dksX6_mean_0 : cX6_mean.data.toList.drop 0 = dktX6_mean_0 := by decide +kernel
theorem dksX6_mean_1 : cX6_mean.data.toList.drop 24 = dktX6_mean_1 := dk_seg dksX6_mean_0 24 rfl rfl
theorem dksX6_mean_2 : cX6_mean.data.toList.drop 48 = dktX6_mean_2 := dk_seg dksX6_mean_1 24 rfl rfl
theorem dksX6_mean_3 : cX6_mean.data.toList.drop 71 = dktX6_mean_3 := dk_seg dksX6_mean_2 23 rfl rfl
theorem dksX6_mean_4 : cX6_mean.data.toList.drop 93 = dktX6_mean_4 := dk_seg dksX6_mean_3 22 rfl rfl
theorem dksX6_mean_5 : cX6_mean.data.toList.drop 116 = dktX6_mean_5 := dk_seg dksX6_mean_4 23 rfl rfl
theorem dX6_mean_0 : decode cX6_mean 0 = .ok (.iload_n 1, 1) := dk_27 (dk_at dksX6_mean_0 0 rfl rfl)
theorem dX6_mean_1 : decode cX6_mean 1 = .ok (.i2l, 1) := dk_133 (dk_at dksX6_mean_0 1 rfl rfl)
theorem dX6_mean_2 : decode cX6_mean 2 = .ok (.lconst 0, 1) := dk_9 (dk_at dksX6_mean_0 2 rfl rfl)
theorem dX6_mean_3 : decode cX6_mean 3 = .ok (.ldc2_w 428, 3) := dk_20 1 172 (dk_at dksX6_mean_0 3 rfl rfl)
theorem dX6_mean_6 : decode cX6_mean 6 = .ok (.invokestatic 256, 3) := dk_184 1 0 (dk_at dksX6_mean_0 6 rfl rfl)
theorem dX6_mean_9 : decode cX6_mean 9 = .ok (.ifCond .eq 26, 3) := dk_153 0 26 (dk_at dksX6_mean_0 9 rfl rfl)
theorem dX6_mean_12 : decode cX6_mean 12 = .ok (.iload_n 2, 1) := dk_28 (dk_at dksX6_mean_0 12 rfl rfl)
theorem dX6_mean_13 : decode cX6_mean 13 = .ok (.i2l, 1) := dk_133 (dk_at dksX6_mean_0 13 rfl rfl)
theorem dX6_mean_14 : decode cX6_mean 14 = .ok (.lconst 1, 1) := dk_10 (dk_at dksX6_mean_0 14 rfl rfl)
theorem dX6_mean_15 : decode cX6_mean 15 = .ok (.ldc2_w 374, 3) := dk_20 1 118 (dk_at dksX6_mean_0 15 rfl rfl)
theorem dX6_mean_18 : decode cX6_mean 18 = .ok (.invokestatic 256, 3) := dk_184 1 0 (dk_at dksX6_mean_0 18 rfl rfl)
theorem dX6_mean_21 : decode cX6_mean 21 = .ok (.ifCond .eq 14, 3) := dk_153 0 14 (dk_at dksX6_mean_0 21 rfl rfl)
theorem dX6_mean_24 : decode cX6_mean 24 = .ok (.iload_n 1, 1) := dk_27 (dk_at dksX6_mean_1 0 rfl rfl)
theorem dX6_mean_25 : decode cX6_mean 25 = .ok (.iload_n 2, 1) := dk_28 (dk_at dksX6_mean_1 1 rfl rfl)
theorem dX6_mean_26 : decode cX6_mean 26 = .ok (.iadd, 1) := dk_96 (dk_at dksX6_mean_1 2 rfl rfl)
theorem dX6_mean_27 : decode cX6_mean 27 = .ok (.iconst 1, 1) := dk_4 (dk_at dksX6_mean_1 3 rfl rfl)
theorem dX6_mean_28 : decode cX6_mean 28 = .ok (.isub, 1) := dk_100 (dk_at dksX6_mean_1 4 rfl rfl)
theorem dX6_mean_29 : decode cX6_mean 29 = .ok (.sipush 9999, 3) := dk_17 39 15 (dk_at dksX6_mean_1 5 rfl rfl)
theorem dX6_mean_32 : decode cX6_mean 32 = .ok (.if_icmp .le 9, 3) := dk_164 0 9 (dk_at dksX6_mean_1 8 rfl rfl)
theorem dX6_mean_35 : decode cX6_mean 35 = .ok (.aload_n 0, 1) := dk_42 (dk_at dksX6_mean_1 11 rfl rfl)
theorem dX6_mean_36 : decode cX6_mean 36 = .ok (.iconst 1, 1) := dk_4 (dk_at dksX6_mean_1 12 rfl rfl)
theorem dX6_mean_37 : decode cX6_mean 37 = .ok (.invokevirtual 85, 3) := dk_182 0 85 (dk_at dksX6_mean_1 13 rfl rfl)
theorem dX6_mean_40 : decode cX6_mean 40 = .ok (.ireturn, 1) := dk_172 (dk_at dksX6_mean_1 16 rfl rfl)
theorem dX6_mean_41 : decode cX6_mean 41 = .ok (.aload_n 0, 1) := dk_42 (dk_at dksX6_mean_1 17 rfl rfl)
theorem dX6_mean_42 : decode cX6_mean 42 = .ok (.getfield 7, 3) := dk_180 0 7 (dk_at dksX6_mean_1 18 rfl rfl)
theorem dX6_mean_45 : decode cX6_mean 45 = .ok (.bipush 8, 2) := dk_16 8 (dk_at dksX6_mean_1 21 rfl rfl)
theorem dX6_mean_47 : decode cX6_mean 47 = .ok (.iaload, 1) := dk_46 (dk_at dksX6_mean_1 23 rfl rfl)
theorem dX6_mean_48 : decode cX6_mean 48 = .ok (.iconst (-1), 1) := dk_2 (dk_at dksX6_mean_2 0 rfl rfl)
theorem dX6_mean_49 : decode cX6_mean 49 = .ok (.if_icmp .ne 10, 3) := dk_160 0 10 (dk_at dksX6_mean_2 1 rfl rfl)
theorem dX6_mean_52 : decode cX6_mean 52 = .ok (.aload_n 0, 1) := dk_42 (dk_at dksX6_mean_2 4 rfl rfl)
theorem dX6_mean_53 : decode cX6_mean 53 = .ok (.bipush 6, 2) := dk_16 6 (dk_at dksX6_mean_2 5 rfl rfl)
theorem dX6_mean_55 : decode cX6_mean 55 = .ok (.invokevirtual 85, 3) := dk_182 0 85 (dk_at dksX6_mean_2 7 rfl rfl)
theorem dX6_mean_58 : decode cX6_mean 58 = .ok (.ireturn, 1) := dk_172 (dk_at dksX6_mean_2 10 rfl rfl)
theorem dX6_mean_59 : decode cX6_mean 59 = .ok (.aload_n 0, 1) := dk_42 (dk_at dksX6_mean_2 11 rfl rfl)
theorem dX6_mean_60 : decode cX6_mean 60 = .ok (.sipush 2080, 3) := dk_17 8 32 (dk_at dksX6_mean_2 12 rfl rfl)
theorem dX6_mean_63 : decode cX6_mean 63 = .ok (.invokevirtual 365, 3) := dk_182 1 109 (dk_at dksX6_mean_2 15 rfl rfl)
theorem dX6_mean_66 : decode cX6_mean 66 = .ok (.lconst 0, 1) := dk_9 (dk_at dksX6_mean_2 18 rfl rfl)
theorem dX6_mean_67 : decode cX6_mean 67 = .ok (.lstore_n 3, 1) := dk_66 (dk_at dksX6_mean_2 19 rfl rfl)
theorem dX6_mean_68 : decode cX6_mean 68 = .ok (.iconst 0, 1) := dk_3 (dk_at dksX6_mean_2 20 rfl rfl)
theorem dX6_mean_69 : decode cX6_mean 69 = .ok (.istore 5, 2) := dk_54 5 (dk_at dksX6_mean_2 21 rfl rfl)
theorem dX6_mean_71 : decode cX6_mean 71 = .ok (.iload 5, 2) := dk_21 5 (dk_at dksX6_mean_3 0 rfl rfl)
theorem dX6_mean_73 : decode cX6_mean 73 = .ok (.iload_n 2, 1) := dk_28 (dk_at dksX6_mean_3 2 rfl rfl)
theorem dX6_mean_74 : decode cX6_mean 74 = .ok (.if_icmp .ge 38, 3) := dk_162 0 38 (dk_at dksX6_mean_3 3 rfl rfl)
theorem dX6_mean_77 : decode cX6_mean 77 = .ok (.aload_n 0, 1) := dk_42 (dk_at dksX6_mean_3 6 rfl rfl)
theorem dX6_mean_78 : decode cX6_mean 78 = .ok (.iload_n 1, 1) := dk_27 (dk_at dksX6_mean_3 7 rfl rfl)
theorem dX6_mean_79 : decode cX6_mean 79 = .ok (.iload 5, 2) := dk_21 5 (dk_at dksX6_mean_3 8 rfl rfl)
theorem dX6_mean_81 : decode cX6_mean 81 = .ok (.iadd, 1) := dk_96 (dk_at dksX6_mean_3 10 rfl rfl)
theorem dX6_mean_82 : decode cX6_mean 82 = .ok (.invokevirtual 430, 3) := dk_182 1 174 (dk_at dksX6_mean_3 11 rfl rfl)
theorem dX6_mean_85 : decode cX6_mean 85 = .ok (.lload_n 3, 1) := dk_33 (dk_at dksX6_mean_3 14 rfl rfl)
theorem dX6_mean_86 : decode cX6_mean 86 = .ok (.aload_n 0, 1) := dk_42 (dk_at dksX6_mean_3 15 rfl rfl)
theorem dX6_mean_87 : decode cX6_mean 87 = .ok (.getfield 7, 3) := dk_180 0 7 (dk_at dksX6_mean_3 16 rfl rfl)
theorem dX6_mean_90 : decode cX6_mean 90 = .ok (.bipush 7, 2) := dk_16 7 (dk_at dksX6_mean_3 19 rfl rfl)
theorem dX6_mean_92 : decode cX6_mean 92 = .ok (.iaload, 1) := dk_46 (dk_at dksX6_mean_3 21 rfl rfl)
theorem dX6_mean_93 : decode cX6_mean 93 = .ok (.invokestatic 305, 3) := dk_184 1 49 (dk_at dksX6_mean_4 0 rfl rfl)
theorem dX6_mean_96 : decode cX6_mean 96 = .ok (.i2l, 1) := dk_133 (dk_at dksX6_mean_4 3 rfl rfl)
theorem dX6_mean_97 : decode cX6_mean 97 = .ok (.ladd, 1) := dk_97 (dk_at dksX6_mean_4 4 rfl rfl)
theorem dX6_mean_98 : decode cX6_mean 98 = .ok (.lstore_n 3, 1) := dk_66 (dk_at dksX6_mean_4 5 rfl rfl)
theorem dX6_mean_99 : decode cX6_mean 99 = .ok (.aload_n 0, 1) := dk_42 (dk_at dksX6_mean_4 6 rfl rfl)
theorem dX6_mean_100 : decode cX6_mean 100 = .ok (.sipush 2080, 3) := dk_17 8 32 (dk_at dksX6_mean_4 7 rfl rfl)
theorem dX6_mean_103 : decode cX6_mean 103 = .ok (.invokevirtual 371, 3) := dk_182 1 115 (dk_at dksX6_mean_4 10 rfl rfl)
theorem dX6_mean_106 : decode cX6_mean 106 = .ok (.iinc 5 1, 3) := dk_132 5 1 (dk_at dksX6_mean_4 13 rfl rfl)
theorem dX6_mean_109 : decode cX6_mean 109 = .ok (.goto (-38), 3) := dk_167 255 218 (dk_at dksX6_mean_4 16 rfl rfl)
theorem dX6_mean_112 : decode cX6_mean 112 = .ok (.aload_n 0, 1) := dk_42 (dk_at dksX6_mean_4 19 rfl rfl)
theorem dX6_mean_113 : decode cX6_mean 113 = .ok (.lload_n 3, 1) := dk_33 (dk_at dksX6_mean_4 20 rfl rfl)
theorem dX6_mean_114 : decode cX6_mean 114 = .ok (.iload_n 2, 1) := dk_28 (dk_at dksX6_mean_4 21 rfl rfl)
theorem dX6_mean_115 : decode cX6_mean 115 = .ok (.i2l, 1) := dk_133 (dk_at dksX6_mean_4 22 rfl rfl)
theorem dX6_mean_116 : decode cX6_mean 116 = .ok (.invokevirtual 402, 3) := dk_182 1 146 (dk_at dksX6_mean_5 0 rfl rfl)
theorem dX6_mean_119 : decode cX6_mean 119 = .ok (.ireturn, 1) := dk_172 (dk_at dksX6_mean_5 3 rfl rfl)
abbrev cX6_mark : ByteArray := prog_15_method_145_code
def yX6_mark : MethodName := ⟨RX6, "mark", "()I"⟩
def dkwX6_mark_1 : List UInt8 := [42, 3, 42, 180, 1, 181, 182, 1, 184, 42, 42, 180, 1, 181, 182, 0, 82, 172]
abbrev dktX6_mark_1 : List UInt8 := dkwX6_mark_1 ++ []
def dkwX6_mark_0 : List UInt8 := [42, 180, 1, 181, 6, 160, 0, 9, 42, 7, 182, 0, 78, 172, 42, 89, 180, 1, 181, 4, 96, 181, 1, 181]
abbrev dktX6_mark_0 : List UInt8 := dkwX6_mark_0 ++ dktX6_mark_1
theorem dksX6_mark_0 : cX6_mark.data.toList.drop 0 = dktX6_mark_0 := by decide +kernel
theorem dksX6_mark_1 : cX6_mark.data.toList.drop 24 = dktX6_mark_1 := dk_seg dksX6_mark_0 24 rfl rfl
theorem dX6_mark_0 : decode cX6_mark 0 = .ok (.aload_n 0, 1) := dk_42 (dk_at dksX6_mark_0 0 rfl rfl)
theorem dX6_mark_1 : decode cX6_mark 1 = .ok (.getfield 437, 3) := dk_180 1 181 (dk_at dksX6_mark_0 1 rfl rfl)
theorem dX6_mark_4 : decode cX6_mark 4 = .ok (.iconst 3, 1) := dk_6 (dk_at dksX6_mark_0 4 rfl rfl)
theorem dX6_mark_5 : decode cX6_mark 5 = .ok (.if_icmp .ne 9, 3) := dk_160 0 9 (dk_at dksX6_mark_0 5 rfl rfl)
theorem dX6_mark_8 : decode cX6_mark 8 = .ok (.aload_n 0, 1) := dk_42 (dk_at dksX6_mark_0 8 rfl rfl)
theorem dX6_mark_9 : decode cX6_mark 9 = .ok (.iconst 4, 1) := dk_7 (dk_at dksX6_mark_0 9 rfl rfl)
theorem dX6_mark_10 : decode cX6_mark 10 = .ok (.invokevirtual 78, 3) := dk_182 0 78 (dk_at dksX6_mark_0 10 rfl rfl)
theorem dX6_mark_13 : decode cX6_mark 13 = .ok (.ireturn, 1) := dk_172 (dk_at dksX6_mark_0 13 rfl rfl)
theorem dX6_mark_14 : decode cX6_mark 14 = .ok (.aload_n 0, 1) := dk_42 (dk_at dksX6_mark_0 14 rfl rfl)
theorem dX6_mark_15 : decode cX6_mark 15 = .ok (.dup, 1) := dk_89 (dk_at dksX6_mark_0 15 rfl rfl)
theorem dX6_mark_16 : decode cX6_mark 16 = .ok (.getfield 437, 3) := dk_180 1 181 (dk_at dksX6_mark_0 16 rfl rfl)
theorem dX6_mark_19 : decode cX6_mark 19 = .ok (.iconst 1, 1) := dk_4 (dk_at dksX6_mark_0 19 rfl rfl)
theorem dX6_mark_20 : decode cX6_mark 20 = .ok (.iadd, 1) := dk_96 (dk_at dksX6_mark_0 20 rfl rfl)
theorem dX6_mark_21 : decode cX6_mark 21 = .ok (.putfield 437, 3) := dk_181 1 181 (dk_at dksX6_mark_0 21 rfl rfl)
theorem dX6_mark_24 : decode cX6_mark 24 = .ok (.aload_n 0, 1) := dk_42 (dk_at dksX6_mark_1 0 rfl rfl)
theorem dX6_mark_25 : decode cX6_mark 25 = .ok (.iconst 0, 1) := dk_3 (dk_at dksX6_mark_1 1 rfl rfl)
theorem dX6_mark_26 : decode cX6_mark 26 = .ok (.aload_n 0, 1) := dk_42 (dk_at dksX6_mark_1 2 rfl rfl)
theorem dX6_mark_27 : decode cX6_mark 27 = .ok (.getfield 437, 3) := dk_180 1 181 (dk_at dksX6_mark_1 3 rfl rfl)
theorem dX6_mark_30 : decode cX6_mark 30 = .ok (.invokevirtual 440, 3) := dk_182 1 184 (dk_at dksX6_mark_1 6 rfl rfl)
theorem dX6_mark_33 : decode cX6_mark 33 = .ok (.aload_n 0, 1) := dk_42 (dk_at dksX6_mark_1 9 rfl rfl)
theorem dX6_mark_34 : decode cX6_mark 34 = .ok (.aload_n 0, 1) := dk_42 (dk_at dksX6_mark_1 10 rfl rfl)
theorem dX6_mark_35 : decode cX6_mark 35 = .ok (.getfield 437, 3) := dk_180 1 181 (dk_at dksX6_mark_1 11 rfl rfl)
theorem dX6_mark_38 : decode cX6_mark 38 = .ok (.invokevirtual 82, 3) := dk_182 0 82 (dk_at dksX6_mark_1 14 rfl rfl)
theorem dX6_mark_41 : decode cX6_mark 41 = .ok (.ireturn, 1) := dk_172 (dk_at dksX6_mark_1 17 rfl rfl)
abbrev cX6_copies : ByteArray := prog_15_method_144_code
def yX6_copies : MethodName := ⟨RX6, "copies", "(II)V"⟩
def dkwX6_copies_3 : List UInt8 := [167, 255, 225, 177]
abbrev dktX6_copies_3 : List UInt8 := dkwX6_copies_3 ++ []
def dkwX6_copies_2 : List UInt8 := [180, 0, 13, 16, 14, 28, 104, 29, 96, 42, 180, 0, 13, 16, 14, 27, 104, 29, 96, 47, 80, 132, 3, 1]
abbrev dktX6_copies_2 : List UInt8 := dkwX6_copies_2 ++ dktX6_copies_3
def dkwX6_copies_1 : List UInt8 := [17, 1, 160, 27, 104, 29, 96, 46, 79, 132, 3, 1, 167, 255, 222, 3, 62, 29, 16, 14, 162, 0, 31, 42]
abbrev dktX6_copies_1 : List UInt8 := dkwX6_copies_1 ++ dktX6_copies_2
def dkwX6_copies_0 : List UInt8 := [3, 62, 29, 17, 1, 160, 162, 0, 33, 42, 180, 0, 7, 17, 1, 160, 28, 104, 29, 96, 42, 180, 0, 7]
abbrev dktX6_copies_0 : List UInt8 := dkwX6_copies_0 ++ dktX6_copies_1
theorem dksX6_copies_0 : cX6_copies.data.toList.drop 0 = dktX6_copies_0 := by decide +kernel
theorem dksX6_copies_1 : cX6_copies.data.toList.drop 24 = dktX6_copies_1 := dk_seg dksX6_copies_0 24 rfl rfl
theorem dksX6_copies_2 : cX6_copies.data.toList.drop 48 = dktX6_copies_2 := dk_seg dksX6_copies_1 24 rfl rfl
theorem dksX6_copies_3 : cX6_copies.data.toList.drop 72 = dktX6_copies_3 := dk_seg dksX6_copies_2 24 rfl rfl
theorem dX6_copies_0 : decode cX6_copies 0 = .ok (.iconst 0, 1) := dk_3 (dk_at dksX6_copies_0 0 rfl rfl)
theorem dX6_copies_1 : decode cX6_copies 1 = .ok (.istore_n 3, 1) := dk_62 (dk_at dksX6_copies_0 1 rfl rfl)
theorem dX6_copies_2 : decode cX6_copies 2 = .ok (.iload_n 3, 1) := dk_29 (dk_at dksX6_copies_0 2 rfl rfl)
theorem dX6_copies_3 : decode cX6_copies 3 = .ok (.sipush 416, 3) := dk_17 1 160 (dk_at dksX6_copies_0 3 rfl rfl)
theorem dX6_copies_6 : decode cX6_copies 6 = .ok (.if_icmp .ge 33, 3) := dk_162 0 33 (dk_at dksX6_copies_0 6 rfl rfl)
theorem dX6_copies_9 : decode cX6_copies 9 = .ok (.aload_n 0, 1) := dk_42 (dk_at dksX6_copies_0 9 rfl rfl)
theorem dX6_copies_10 : decode cX6_copies 10 = .ok (.getfield 7, 3) := dk_180 0 7 (dk_at dksX6_copies_0 10 rfl rfl)
theorem dX6_copies_13 : decode cX6_copies 13 = .ok (.sipush 416, 3) := dk_17 1 160 (dk_at dksX6_copies_0 13 rfl rfl)
theorem dX6_copies_16 : decode cX6_copies 16 = .ok (.iload_n 2, 1) := dk_28 (dk_at dksX6_copies_0 16 rfl rfl)
theorem dX6_copies_17 : decode cX6_copies 17 = .ok (.imul, 1) := dk_104 (dk_at dksX6_copies_0 17 rfl rfl)
theorem dX6_copies_18 : decode cX6_copies 18 = .ok (.iload_n 3, 1) := dk_29 (dk_at dksX6_copies_0 18 rfl rfl)
theorem dX6_copies_19 : decode cX6_copies 19 = .ok (.iadd, 1) := dk_96 (dk_at dksX6_copies_0 19 rfl rfl)
theorem dX6_copies_20 : decode cX6_copies 20 = .ok (.aload_n 0, 1) := dk_42 (dk_at dksX6_copies_0 20 rfl rfl)
theorem dX6_copies_21 : decode cX6_copies 21 = .ok (.getfield 7, 3) := dk_180 0 7 (dk_at dksX6_copies_0 21 rfl rfl)
theorem dX6_copies_24 : decode cX6_copies 24 = .ok (.sipush 416, 3) := dk_17 1 160 (dk_at dksX6_copies_1 0 rfl rfl)
theorem dX6_copies_27 : decode cX6_copies 27 = .ok (.iload_n 1, 1) := dk_27 (dk_at dksX6_copies_1 3 rfl rfl)
theorem dX6_copies_28 : decode cX6_copies 28 = .ok (.imul, 1) := dk_104 (dk_at dksX6_copies_1 4 rfl rfl)
theorem dX6_copies_29 : decode cX6_copies 29 = .ok (.iload_n 3, 1) := dk_29 (dk_at dksX6_copies_1 5 rfl rfl)
theorem dX6_copies_30 : decode cX6_copies 30 = .ok (.iadd, 1) := dk_96 (dk_at dksX6_copies_1 6 rfl rfl)
theorem dX6_copies_31 : decode cX6_copies 31 = .ok (.iaload, 1) := dk_46 (dk_at dksX6_copies_1 7 rfl rfl)
theorem dX6_copies_32 : decode cX6_copies 32 = .ok (.iastore, 1) := dk_79 (dk_at dksX6_copies_1 8 rfl rfl)
theorem dX6_copies_33 : decode cX6_copies 33 = .ok (.iinc 3 1, 3) := dk_132 3 1 (dk_at dksX6_copies_1 9 rfl rfl)
theorem dX6_copies_36 : decode cX6_copies 36 = .ok (.goto (-34), 3) := dk_167 255 222 (dk_at dksX6_copies_1 12 rfl rfl)
theorem dX6_copies_39 : decode cX6_copies 39 = .ok (.iconst 0, 1) := dk_3 (dk_at dksX6_copies_1 15 rfl rfl)
theorem dX6_copies_40 : decode cX6_copies 40 = .ok (.istore_n 3, 1) := dk_62 (dk_at dksX6_copies_1 16 rfl rfl)
theorem dX6_copies_41 : decode cX6_copies 41 = .ok (.iload_n 3, 1) := dk_29 (dk_at dksX6_copies_1 17 rfl rfl)
theorem dX6_copies_42 : decode cX6_copies 42 = .ok (.bipush 14, 2) := dk_16 14 (dk_at dksX6_copies_1 18 rfl rfl)
theorem dX6_copies_44 : decode cX6_copies 44 = .ok (.if_icmp .ge 31, 3) := dk_162 0 31 (dk_at dksX6_copies_1 20 rfl rfl)
theorem dX6_copies_47 : decode cX6_copies 47 = .ok (.aload_n 0, 1) := dk_42 (dk_at dksX6_copies_1 23 rfl rfl)
theorem dX6_copies_48 : decode cX6_copies 48 = .ok (.getfield 13, 3) := dk_180 0 13 (dk_at dksX6_copies_2 0 rfl rfl)
theorem dX6_copies_51 : decode cX6_copies 51 = .ok (.bipush 14, 2) := dk_16 14 (dk_at dksX6_copies_2 3 rfl rfl)
theorem dX6_copies_53 : decode cX6_copies 53 = .ok (.iload_n 2, 1) := dk_28 (dk_at dksX6_copies_2 5 rfl rfl)
theorem dX6_copies_54 : decode cX6_copies 54 = .ok (.imul, 1) := dk_104 (dk_at dksX6_copies_2 6 rfl rfl)
theorem dX6_copies_55 : decode cX6_copies 55 = .ok (.iload_n 3, 1) := dk_29 (dk_at dksX6_copies_2 7 rfl rfl)
theorem dX6_copies_56 : decode cX6_copies 56 = .ok (.iadd, 1) := dk_96 (dk_at dksX6_copies_2 8 rfl rfl)
theorem dX6_copies_57 : decode cX6_copies 57 = .ok (.aload_n 0, 1) := dk_42 (dk_at dksX6_copies_2 9 rfl rfl)
theorem dX6_copies_58 : decode cX6_copies 58 = .ok (.getfield 13, 3) := dk_180 0 13 (dk_at dksX6_copies_2 10 rfl rfl)
theorem dX6_copies_61 : decode cX6_copies 61 = .ok (.bipush 14, 2) := dk_16 14 (dk_at dksX6_copies_2 13 rfl rfl)
theorem dX6_copies_63 : decode cX6_copies 63 = .ok (.iload_n 1, 1) := dk_27 (dk_at dksX6_copies_2 15 rfl rfl)
theorem dX6_copies_64 : decode cX6_copies 64 = .ok (.imul, 1) := dk_104 (dk_at dksX6_copies_2 16 rfl rfl)
theorem dX6_copies_65 : decode cX6_copies 65 = .ok (.iload_n 3, 1) := dk_29 (dk_at dksX6_copies_2 17 rfl rfl)
theorem dX6_copies_66 : decode cX6_copies 66 = .ok (.iadd, 1) := dk_96 (dk_at dksX6_copies_2 18 rfl rfl)
theorem dX6_copies_67 : decode cX6_copies 67 = .ok (.laload, 1) := dk_47 (dk_at dksX6_copies_2 19 rfl rfl)
theorem dX6_copies_68 : decode cX6_copies 68 = .ok (.lastore, 1) := dk_80 (dk_at dksX6_copies_2 20 rfl rfl)
theorem dX6_copies_69 : decode cX6_copies 69 = .ok (.iinc 3 1, 3) := dk_132 3 1 (dk_at dksX6_copies_2 21 rfl rfl)
theorem dX6_copies_72 : decode cX6_copies 72 = .ok (.goto (-31), 3) := dk_167 255 225 (dk_at dksX6_copies_3 0 rfl rfl)
theorem dX6_copies_75 : decode cX6_copies 75 = .ok (.return_, 1) := dk_177 (dk_at dksX6_copies_3 3 rfl rfl)
abbrev cX6_undo : ByteArray := prog_15_method_146_code
def yX6_undo : MethodName := ⟨RX6, "undo", "()I"⟩
def dkwX6_undo_1 : List UInt8 := [89, 180, 1, 181, 4, 100, 181, 1, 181, 42, 42, 180, 1, 181, 182, 0, 82, 172]
abbrev dktX6_undo_1 : List UInt8 := dkwX6_undo_1 ++ []
def dkwX6_undo_0 : List UInt8 := [42, 180, 1, 181, 154, 0, 10, 42, 16, 6, 182, 0, 78, 172, 42, 42, 180, 1, 181, 3, 182, 1, 184, 42]
abbrev dktX6_undo_0 : List UInt8 := dkwX6_undo_0 ++ dktX6_undo_1
theorem dksX6_undo_0 : cX6_undo.data.toList.drop 0 = dktX6_undo_0 := by decide +kernel
theorem dksX6_undo_1 : cX6_undo.data.toList.drop 24 = dktX6_undo_1 := dk_seg dksX6_undo_0 24 rfl rfl
theorem dX6_undo_0 : decode cX6_undo 0 = .ok (.aload_n 0, 1) := dk_42 (dk_at dksX6_undo_0 0 rfl rfl)
theorem dX6_undo_1 : decode cX6_undo 1 = .ok (.getfield 437, 3) := dk_180 1 181 (dk_at dksX6_undo_0 1 rfl rfl)
theorem dX6_undo_4 : decode cX6_undo 4 = .ok (.ifCond .ne 10, 3) := dk_154 0 10 (dk_at dksX6_undo_0 4 rfl rfl)
theorem dX6_undo_7 : decode cX6_undo 7 = .ok (.aload_n 0, 1) := dk_42 (dk_at dksX6_undo_0 7 rfl rfl)
theorem dX6_undo_8 : decode cX6_undo 8 = .ok (.bipush 6, 2) := dk_16 6 (dk_at dksX6_undo_0 8 rfl rfl)
theorem dX6_undo_10 : decode cX6_undo 10 = .ok (.invokevirtual 78, 3) := dk_182 0 78 (dk_at dksX6_undo_0 10 rfl rfl)
theorem dX6_undo_13 : decode cX6_undo 13 = .ok (.ireturn, 1) := dk_172 (dk_at dksX6_undo_0 13 rfl rfl)
theorem dX6_undo_14 : decode cX6_undo 14 = .ok (.aload_n 0, 1) := dk_42 (dk_at dksX6_undo_0 14 rfl rfl)
theorem dX6_undo_15 : decode cX6_undo 15 = .ok (.aload_n 0, 1) := dk_42 (dk_at dksX6_undo_0 15 rfl rfl)
theorem dX6_undo_16 : decode cX6_undo 16 = .ok (.getfield 437, 3) := dk_180 1 181 (dk_at dksX6_undo_0 16 rfl rfl)
theorem dX6_undo_19 : decode cX6_undo 19 = .ok (.iconst 0, 1) := dk_3 (dk_at dksX6_undo_0 19 rfl rfl)
theorem dX6_undo_20 : decode cX6_undo 20 = .ok (.invokevirtual 440, 3) := dk_182 1 184 (dk_at dksX6_undo_0 20 rfl rfl)
theorem dX6_undo_23 : decode cX6_undo 23 = .ok (.aload_n 0, 1) := dk_42 (dk_at dksX6_undo_0 23 rfl rfl)
theorem dX6_undo_24 : decode cX6_undo 24 = .ok (.dup, 1) := dk_89 (dk_at dksX6_undo_1 0 rfl rfl)
theorem dX6_undo_25 : decode cX6_undo 25 = .ok (.getfield 437, 3) := dk_180 1 181 (dk_at dksX6_undo_1 1 rfl rfl)
theorem dX6_undo_28 : decode cX6_undo 28 = .ok (.iconst 1, 1) := dk_4 (dk_at dksX6_undo_1 4 rfl rfl)
theorem dX6_undo_29 : decode cX6_undo 29 = .ok (.isub, 1) := dk_100 (dk_at dksX6_undo_1 5 rfl rfl)
theorem dX6_undo_30 : decode cX6_undo 30 = .ok (.putfield 437, 3) := dk_181 1 181 (dk_at dksX6_undo_1 6 rfl rfl)
theorem dX6_undo_33 : decode cX6_undo 33 = .ok (.aload_n 0, 1) := dk_42 (dk_at dksX6_undo_1 9 rfl rfl)
theorem dX6_undo_34 : decode cX6_undo 34 = .ok (.aload_n 0, 1) := dk_42 (dk_at dksX6_undo_1 10 rfl rfl)
theorem dX6_undo_35 : decode cX6_undo 35 = .ok (.getfield 437, 3) := dk_180 1 181 (dk_at dksX6_undo_1 11 rfl rfl)
theorem dX6_undo_38 : decode cX6_undo 38 = .ok (.invokevirtual 82, 3) := dk_182 0 82 (dk_at dksX6_undo_1 14 rfl rfl)
theorem dX6_undo_41 : decode cX6_undo 41 = .ok (.ireturn, 1) := dk_172 (dk_at dksX6_undo_1 17 rfl rfl)
theorem q149 : (Jvm.Cond.initialized "IslandCallModel") ∈ lw_all := lw_g (lw_at lw_m1 9 rfl) rfl
theorem q1405 : (Jvm.Cond.instantiable "IslandCallModel" (37 : Nat)) ∈ lw_all := lw_g (lw_at lw_m6 65 rfl) rfl
theorem q1407 : (Jvm.Cond.instanceMethod ({ cls := "IslandCallModel", name := "<init>", desc := "()V" } : Jvm.MethodName)) ∈ lw_all := lw_g (lw_at lw_m6 67 rfl) rfl
theorem q1408 : (Jvm.Cond.code ({ cls := "IslandCallModel", name := "<init>", desc := "()V" } : Jvm.MethodName) prog_15_method_1_code (1 : Nat) (Option.none : Option Jvm.ClassFile.FieldType)) ∈ lw_all := lw_g (lw_at lw_m6 68 rfl) rfl
theorem q1409 : (Jvm.Cond.methodLink "IslandCallModel" (1 : Nat) ({ cls := "java/lang/Object", name := "<init>", desc := "()V" } : Jvm.MethodName)) ∈ lw_all := lw_g (lw_at lw_m6 69 rfl) rfl
theorem q1410 : (Jvm.Cond.methodLink "IslandCallModel" (68 : Nat) ({ cls := "IslandCallModel", name := "plain", desc := "(I)V" } : Jvm.MethodName)) ∈ lw_all := lw_g (lw_at lw_m6 70 rfl) rfl
theorem q1411 : (Jvm.Cond.privateMethod ({ cls := "IslandCallModel", name := "plain", desc := "(I)V" } : Jvm.MethodName)) ∈ lw_tbl := lw_at lw_m6 71 rfl
theorem q1412 : (Jvm.Cond.instanceMethod ({ cls := "IslandCallModel", name := "plain", desc := "(I)V" } : Jvm.MethodName)) ∈ lw_all := lw_g (lw_at lw_m6 72 rfl) rfl
theorem q1413 : (Jvm.Cond.code ({ cls := "IslandCallModel", name := "plain", desc := "(I)V" } : Jvm.MethodName) prog_15_method_2_code (3 : Nat) (Option.none : Option Jvm.ClassFile.FieldType)) ∈ lw_all := lw_g (lw_at lw_m6 73 rfl) rfl
theorem q1414 : (Jvm.Cond.fieldLink "IslandCallModel" (7 : Nat) "IslandCallModel" "at" "[I") ∈ lw_all := lw_g (lw_at lw_m6 74 rfl) rfl
theorem q1415 : (Jvm.Cond.fieldLink "IslandCallModel" (13 : Nat) "IslandCallModel" "names" "[J") ∈ lw_all := lw_g (lw_at lw_m6 75 rfl) rfl
theorem q1416 : (Jvm.Cond.fieldLink "IslandCallModel" (72 : Nat) "IslandCallModel" "status" "I") ∈ lw_all := lw_g (lw_at lw_m6 76 rfl) rfl
theorem q1417 : (Jvm.Cond.fieldLink "IslandCallModel" (75 : Nat) "IslandCallModel" "top" "J") ∈ lw_all := lw_g (lw_at lw_m6 77 rfl) rfl
theorem q1418 : (Jvm.Cond.fieldLink "IslandCallModel" (17 : Nat) "IslandCallModel" "bottom" "J") ∈ lw_all := lw_g (lw_at lw_m6 78 rfl) rfl
theorem q1419 : (Jvm.Cond.fieldLink "IslandCallModel" (21 : Nat) "IslandCallModel" "sort" "[I") ∈ lw_all := lw_g (lw_at lw_m6 79 rfl) rfl
theorem q1420 : (Jvm.Cond.fieldLink "IslandCallModel" (24 : Nat) "IslandCallModel" "trayMany" "[I") ∈ lw_all := lw_g (lw_at lw_m6 80 rfl) rfl
theorem q1421 : (Jvm.Cond.fieldLink "IslandCallModel" (27 : Nat) "IslandCallModel" "trays" "[J") ∈ lw_all := lw_g (lw_at lw_m6 81 rfl) rfl
theorem q1422 : (Jvm.Cond.fieldLink "IslandCallModel" (30 : Nat) "IslandCallModel" "tape" "[B") ∈ lw_all := lw_g (lw_at lw_m6 82 rfl) rfl
theorem q1423 : (Jvm.Cond.fieldLink "IslandCallModel" (34 : Nat) "IslandCallModel" "text" "[B") ∈ lw_all := lw_g (lw_at lw_m6 83 rfl) rfl
theorem q1424 : (Jvm.Cond.fieldLink "IslandCallModel" (102 : Nat) "IslandCallModel" "taped" "I") ∈ lw_all := lw_g (lw_at lw_m6 84 rfl) rfl
theorem q1425 : (Jvm.Cond.fieldLink "IslandCallModel" (108 : Nat) "IslandCallModel" "size" "I") ∈ lw_all := lw_g (lw_at lw_m6 85 rfl) rfl
theorem q1426 : (Jvm.Cond.fieldLink "IslandCallModel" (123 : Nat) "IslandCallModel" "token" "I") ∈ lw_all := lw_g (lw_at lw_m6 86 rfl) rfl
theorem q1427 : (Jvm.Cond.fieldLink "IslandCallModel" (117 : Nat) "IslandCallModel" "from" "I") ∈ lw_all := lw_g (lw_at lw_m6 87 rfl) rfl
theorem q1428 : (Jvm.Cond.fieldLink "IslandCallModel" (111 : Nat) "IslandCallModel" "end" "I") ∈ lw_all := lw_g (lw_at lw_m6 88 rfl) rfl
theorem q1429 : (Jvm.Cond.fieldLink "IslandCallModel" (120 : Nat) "IslandCallModel" "value" "I") ∈ lw_all := lw_g (lw_at lw_m6 89 rfl) rfl
theorem q1430 : (Jvm.Cond.fieldLink "IslandCallModel" (37 : Nat) "IslandCallModel" "faultKind" "I") ∈ lw_all := lw_g (lw_at lw_m6 90 rfl) rfl
theorem q1431 : (Jvm.Cond.fieldLink "IslandCallModel" (41 : Nat) "IslandCallModel" "faultPlace" "I") ∈ lw_all := lw_g (lw_at lw_m6 91 rfl) rfl
theorem q1432 : (Jvm.Cond.fieldLink "IslandCallModel" (148 : Nat) "IslandCallModel" "faults" "I") ∈ lw_all := lw_g (lw_at lw_m6 92 rfl) rfl
theorem q1433 : (Jvm.Cond.fieldLink "IslandCallModel" (151 : Nat) "IslandCallModel" "seen" "I") ∈ lw_all := lw_g (lw_at lw_m6 93 rfl) rfl
theorem q1434 : (Jvm.Cond.fieldLink "IslandCallModel" (206 : Nat) "IslandCallModel" "toldParts" "I") ∈ lw_all := lw_g (lw_at lw_m6 94 rfl) rfl
theorem q1435 : (Jvm.Cond.fieldLink "IslandCallModel" (44 : Nat) "IslandCallModel" "opened" "[I") ∈ lw_all := lw_g (lw_at lw_m6 95 rfl) rfl
theorem q1436 : (Jvm.Cond.fieldLink "IslandCallModel" (241 : Nat) "IslandCallModel" "depth" "I") ∈ lw_all := lw_g (lw_at lw_m6 96 rfl) rfl
theorem q1437 : (Jvm.Cond.fieldLink "IslandCallModel" (244 : Nat) "IslandCallModel" "counted" "I") ∈ lw_all := lw_g (lw_at lw_m6 97 rfl) rfl
theorem q1438 : (Jvm.Cond.fieldLink "IslandCallModel" (47 : Nat) "IslandCallModel" "roseIn" "[I") ∈ lw_all := lw_g (lw_at lw_m6 98 rfl) rfl
theorem q1439 : (Jvm.Cond.fieldLink "IslandCallModel" (302 : Nat) "IslandCallModel" "roundMany" "I") ∈ lw_all := lw_g (lw_at lw_m6 99 rfl) rfl
theorem q1440 : (Jvm.Cond.fieldLink "IslandCallModel" (50 : Nat) "IslandCallModel" "cameBy" "[I") ∈ lw_all := lw_g (lw_at lw_m6 100 rfl) rfl
theorem q1441 : (Jvm.Cond.fieldLink "IslandCallModel" (53 : Nat) "IslandCallModel" "cameThen" "[I") ∈ lw_all := lw_g (lw_at lw_m6 101 rfl) rfl
theorem q1442 : (Jvm.Cond.fieldLink "IslandCallModel" (390 : Nat) "IslandCallModel" "firstOmen" "I") ∈ lw_all := lw_g (lw_at lw_m6 102 rfl) rfl
theorem q1443 : (Jvm.Cond.fieldLink "IslandCallModel" (56 : Nat) "IslandCallModel" "madeBy" "[J") ∈ lw_all := lw_g (lw_at lw_m6 103 rfl) rfl
theorem q1444 : (Jvm.Cond.fieldLink "IslandCallModel" (406 : Nat) "IslandCallModel" "drawn" "I") ∈ lw_all := lw_g (lw_at lw_m6 104 rfl) rfl
theorem q1445 : (Jvm.Cond.fieldLink "IslandCallModel" (416 : Nat) "IslandCallModel" "ranSteps" "I") ∈ lw_all := lw_g (lw_at lw_m6 105 rfl) rfl
theorem q1446 : (Jvm.Cond.fieldLink "IslandCallModel" (59 : Nat) "IslandCallModel" "loops" "[I") ∈ lw_all := lw_g (lw_at lw_m6 106 rfl) rfl
theorem q1447 : (Jvm.Cond.fieldLink "IslandCallModel" (62 : Nat) "IslandCallModel" "ran" "[I") ∈ lw_all := lw_g (lw_at lw_m6 107 rfl) rfl
theorem q1448 : (Jvm.Cond.fieldLink "IslandCallModel" (65 : Nat) "IslandCallModel" "told1" "[I") ∈ lw_all := lw_g (lw_at lw_m6 108 rfl) rfl
theorem q1449 : (Jvm.Cond.fieldLink "IslandCallModel" (433 : Nat) "IslandCallModel" "isTold" "Z") ∈ lw_all := lw_g (lw_at lw_m6 109 rfl) rfl
theorem q1450 : (Jvm.Cond.fieldLink "IslandCallModel" (437 : Nat) "IslandCallModel" "marks" "I") ∈ lw_all := lw_g (lw_at lw_m6 110 rfl) rfl
theorem q1451 : (Jvm.Cond.laysFinal "IslandCallModel" "IslandCallModel" "at" "[I") ∈ lw_all := lw_g (lw_at lw_m6 111 rfl) rfl
theorem q1452 : (Jvm.Cond.soleField "IslandCallModel" "at") ∈ lw_all := lw_g (lw_at lw_m6 112 rfl) rfl
theorem q1453 : (Jvm.Cond.laysFinal "IslandCallModel" "IslandCallModel" "names" "[J") ∈ lw_all := lw_g (lw_at lw_m6 113 rfl) rfl
theorem q1454 : (Jvm.Cond.soleField "IslandCallModel" "names") ∈ lw_all := lw_g (lw_at lw_m6 114 rfl) rfl
theorem q1455 : (Jvm.Cond.lays "IslandCallModel" "IslandCallModel" "status" "I") ∈ lw_all := lw_g (lw_at lw_m6 115 rfl) rfl
theorem q1456 : (Jvm.Cond.soleField "IslandCallModel" "status") ∈ lw_all := lw_g (lw_at lw_m6 116 rfl) rfl
theorem q1457 : (Jvm.Cond.lays "IslandCallModel" "IslandCallModel" "top" "J") ∈ lw_all := lw_g (lw_at lw_m6 117 rfl) rfl
theorem q1458 : (Jvm.Cond.soleField "IslandCallModel" "top") ∈ lw_all := lw_g (lw_at lw_m6 118 rfl) rfl
theorem q1459 : (Jvm.Cond.lays "IslandCallModel" "IslandCallModel" "bottom" "J") ∈ lw_all := lw_g (lw_at lw_m6 119 rfl) rfl
theorem q1460 : (Jvm.Cond.soleField "IslandCallModel" "bottom") ∈ lw_all := lw_g (lw_at lw_m6 120 rfl) rfl
theorem q1461 : (Jvm.Cond.laysFinal "IslandCallModel" "IslandCallModel" "sort" "[I") ∈ lw_all := lw_g (lw_at lw_m6 121 rfl) rfl
theorem q1462 : (Jvm.Cond.soleField "IslandCallModel" "sort") ∈ lw_all := lw_g (lw_at lw_m6 122 rfl) rfl
theorem q1463 : (Jvm.Cond.laysFinal "IslandCallModel" "IslandCallModel" "trayMany" "[I") ∈ lw_all := lw_g (lw_at lw_m6 123 rfl) rfl
theorem q1464 : (Jvm.Cond.soleField "IslandCallModel" "trayMany") ∈ lw_all := lw_g (lw_at lw_m6 124 rfl) rfl
theorem q1465 : (Jvm.Cond.laysFinal "IslandCallModel" "IslandCallModel" "trays" "[J") ∈ lw_all := lw_g (lw_at lw_m6 125 rfl) rfl
theorem q1466 : (Jvm.Cond.soleField "IslandCallModel" "trays") ∈ lw_all := lw_g (lw_at lw_m6 126 rfl) rfl
theorem q1467 : (Jvm.Cond.laysFinal "IslandCallModel" "IslandCallModel" "tape" "[B") ∈ lw_all := lw_g (lw_at lw_m6 127 rfl) rfl
theorem q1468 : (Jvm.Cond.soleField "IslandCallModel" "tape") ∈ lw_all := lw_g (lw_at lw_m6 128 rfl) rfl
theorem q1469 : (Jvm.Cond.laysFinal "IslandCallModel" "IslandCallModel" "text" "[B") ∈ lw_all := lw_g (lw_at lw_m6 129 rfl) rfl
theorem q1470 : (Jvm.Cond.soleField "IslandCallModel" "text") ∈ lw_all := lw_g (lw_at lw_m6 130 rfl) rfl
theorem q1471 : (Jvm.Cond.lays "IslandCallModel" "IslandCallModel" "taped" "I") ∈ lw_all := lw_g (lw_at lw_m6 131 rfl) rfl
theorem q1472 : (Jvm.Cond.soleField "IslandCallModel" "taped") ∈ lw_all := lw_g (lw_at lw_m6 132 rfl) rfl
theorem q1473 : (Jvm.Cond.lays "IslandCallModel" "IslandCallModel" "size" "I") ∈ lw_all := lw_g (lw_at lw_m6 133 rfl) rfl
theorem q1474 : (Jvm.Cond.soleField "IslandCallModel" "size") ∈ lw_all := lw_g (lw_at lw_m6 134 rfl) rfl
theorem q1475 : (Jvm.Cond.lays "IslandCallModel" "IslandCallModel" "token" "I") ∈ lw_all := lw_g (lw_at lw_m6 135 rfl) rfl
theorem q1476 : (Jvm.Cond.soleField "IslandCallModel" "token") ∈ lw_all := lw_g (lw_at lw_m6 136 rfl) rfl
theorem q1477 : (Jvm.Cond.lays "IslandCallModel" "IslandCallModel" "from" "I") ∈ lw_all := lw_g (lw_at lw_m6 137 rfl) rfl
theorem q1478 : (Jvm.Cond.soleField "IslandCallModel" "from") ∈ lw_all := lw_g (lw_at lw_m6 138 rfl) rfl
theorem q1479 : (Jvm.Cond.lays "IslandCallModel" "IslandCallModel" "end" "I") ∈ lw_all := lw_g (lw_at lw_m6 139 rfl) rfl
theorem q1480 : (Jvm.Cond.soleField "IslandCallModel" "end") ∈ lw_all := lw_g (lw_at lw_m6 140 rfl) rfl
theorem q1481 : (Jvm.Cond.lays "IslandCallModel" "IslandCallModel" "value" "I") ∈ lw_all := lw_g (lw_at lw_m6 141 rfl) rfl
theorem q1482 : (Jvm.Cond.soleField "IslandCallModel" "value") ∈ lw_all := lw_g (lw_at lw_m6 142 rfl) rfl
theorem q1483 : (Jvm.Cond.lays "IslandCallModel" "IslandCallModel" "faultKind" "I") ∈ lw_all := lw_g (lw_at lw_m6 143 rfl) rfl
theorem q1484 : (Jvm.Cond.soleField "IslandCallModel" "faultKind") ∈ lw_all := lw_g (lw_at lw_m6 144 rfl) rfl
theorem q1485 : (Jvm.Cond.lays "IslandCallModel" "IslandCallModel" "faultPlace" "I") ∈ lw_all := lw_g (lw_at lw_m6 145 rfl) rfl
theorem q1486 : (Jvm.Cond.soleField "IslandCallModel" "faultPlace") ∈ lw_all := lw_g (lw_at lw_m6 146 rfl) rfl
theorem q1487 : (Jvm.Cond.lays "IslandCallModel" "IslandCallModel" "faults" "I") ∈ lw_all := lw_g (lw_at lw_m6 147 rfl) rfl
theorem q1488 : (Jvm.Cond.soleField "IslandCallModel" "faults") ∈ lw_all := lw_g (lw_at lw_m6 148 rfl) rfl
theorem q1489 : (Jvm.Cond.lays "IslandCallModel" "IslandCallModel" "seen" "I") ∈ lw_all := lw_g (lw_at lw_m6 149 rfl) rfl
theorem q1490 : (Jvm.Cond.soleField "IslandCallModel" "seen") ∈ lw_all := lw_g (lw_at lw_m6 150 rfl) rfl
theorem q1491 : (Jvm.Cond.lays "IslandCallModel" "IslandCallModel" "toldParts" "I") ∈ lw_all := lw_g (lw_at lw_m6 151 rfl) rfl
theorem q1492 : (Jvm.Cond.soleField "IslandCallModel" "toldParts") ∈ lw_all := lw_g (lw_at lw_m6 152 rfl) rfl
theorem q1493 : (Jvm.Cond.laysFinal "IslandCallModel" "IslandCallModel" "opened" "[I") ∈ lw_all := lw_g (lw_at lw_m6 153 rfl) rfl
theorem q1494 : (Jvm.Cond.soleField "IslandCallModel" "opened") ∈ lw_all := lw_g (lw_at lw_m6 154 rfl) rfl
theorem q1495 : (Jvm.Cond.lays "IslandCallModel" "IslandCallModel" "depth" "I") ∈ lw_all := lw_g (lw_at lw_m6 155 rfl) rfl
theorem q1496 : (Jvm.Cond.soleField "IslandCallModel" "depth") ∈ lw_all := lw_g (lw_at lw_m6 156 rfl) rfl
theorem q1497 : (Jvm.Cond.lays "IslandCallModel" "IslandCallModel" "counted" "I") ∈ lw_all := lw_g (lw_at lw_m6 157 rfl) rfl
theorem q1498 : (Jvm.Cond.soleField "IslandCallModel" "counted") ∈ lw_all := lw_g (lw_at lw_m6 158 rfl) rfl
theorem q1499 : (Jvm.Cond.laysFinal "IslandCallModel" "IslandCallModel" "roseIn" "[I") ∈ lw_all := lw_g (lw_at lw_m6 159 rfl) rfl
theorem q1500 : (Jvm.Cond.soleField "IslandCallModel" "roseIn") ∈ lw_all := lw_g (lw_at lw_m6 160 rfl) rfl
theorem q1501 : (Jvm.Cond.lays "IslandCallModel" "IslandCallModel" "roundMany" "I") ∈ lw_all := lw_g (lw_at lw_m6 161 rfl) rfl
theorem q1502 : (Jvm.Cond.soleField "IslandCallModel" "roundMany") ∈ lw_all := lw_g (lw_at lw_m6 162 rfl) rfl
theorem q1503 : (Jvm.Cond.laysFinal "IslandCallModel" "IslandCallModel" "cameBy" "[I") ∈ lw_all := lw_g (lw_at lw_m6 163 rfl) rfl
theorem q1504 : (Jvm.Cond.soleField "IslandCallModel" "cameBy") ∈ lw_all := lw_g (lw_at lw_m6 164 rfl) rfl
theorem q1505 : (Jvm.Cond.laysFinal "IslandCallModel" "IslandCallModel" "cameThen" "[I") ∈ lw_all := lw_g (lw_at lw_m6 165 rfl) rfl
theorem q1506 : (Jvm.Cond.soleField "IslandCallModel" "cameThen") ∈ lw_all := lw_g (lw_at lw_m6 166 rfl) rfl
theorem q1507 : (Jvm.Cond.lays "IslandCallModel" "IslandCallModel" "firstOmen" "I") ∈ lw_all := lw_g (lw_at lw_m6 167 rfl) rfl
theorem q1508 : (Jvm.Cond.soleField "IslandCallModel" "firstOmen") ∈ lw_all := lw_g (lw_at lw_m6 168 rfl) rfl
theorem q1509 : (Jvm.Cond.laysFinal "IslandCallModel" "IslandCallModel" "madeBy" "[J") ∈ lw_all := lw_g (lw_at lw_m6 169 rfl) rfl
theorem q1510 : (Jvm.Cond.soleField "IslandCallModel" "madeBy") ∈ lw_all := lw_g (lw_at lw_m6 170 rfl) rfl
theorem q1511 : (Jvm.Cond.lays "IslandCallModel" "IslandCallModel" "drawn" "I") ∈ lw_all := lw_g (lw_at lw_m6 171 rfl) rfl
theorem q1512 : (Jvm.Cond.soleField "IslandCallModel" "drawn") ∈ lw_all := lw_g (lw_at lw_m6 172 rfl) rfl
theorem q1513 : (Jvm.Cond.lays "IslandCallModel" "IslandCallModel" "ranSteps" "I") ∈ lw_all := lw_g (lw_at lw_m6 173 rfl) rfl
theorem q1514 : (Jvm.Cond.soleField "IslandCallModel" "ranSteps") ∈ lw_all := lw_g (lw_at lw_m6 174 rfl) rfl
theorem q1515 : (Jvm.Cond.laysFinal "IslandCallModel" "IslandCallModel" "loops" "[I") ∈ lw_all := lw_g (lw_at lw_m6 175 rfl) rfl
theorem q1516 : (Jvm.Cond.soleField "IslandCallModel" "loops") ∈ lw_all := lw_g (lw_at lw_m6 176 rfl) rfl
theorem q1517 : (Jvm.Cond.laysFinal "IslandCallModel" "IslandCallModel" "ran" "[I") ∈ lw_all := lw_g (lw_at lw_m6 177 rfl) rfl
theorem q1518 : (Jvm.Cond.soleField "IslandCallModel" "ran") ∈ lw_all := lw_g (lw_at lw_m6 178 rfl) rfl
theorem q1519 : (Jvm.Cond.laysFinal "IslandCallModel" "IslandCallModel" "told1" "[I") ∈ lw_all := lw_g (lw_at lw_m6 179 rfl) rfl
theorem q1520 : (Jvm.Cond.soleField "IslandCallModel" "told1") ∈ lw_all := lw_g (lw_at lw_m6 180 rfl) rfl
theorem q1521 : (Jvm.Cond.lays "IslandCallModel" "IslandCallModel" "isTold" "Z") ∈ lw_all := lw_g (lw_at lw_m6 181 rfl) rfl
theorem q1522 : (Jvm.Cond.soleField "IslandCallModel" "isTold") ∈ lw_all := lw_g (lw_at lw_m6 182 rfl) rfl
theorem q1523 : (Jvm.Cond.lays "IslandCallModel" "IslandCallModel" "marks" "I") ∈ lw_all := lw_g (lw_at lw_m6 183 rfl) rfl
theorem q1524 : (Jvm.Cond.soleField "IslandCallModel" "marks") ∈ lw_all := lw_g (lw_at lw_m6 184 rfl) rfl
theorem q1525 : (Jvm.Cond.superclass "IslandCallModel" "java/lang/Object") ∈ lw_all := lw_g (lw_at lw_m6 185 rfl) rfl
theorem q1527 : (Jvm.Cond.instanceMethod ({ cls := "IslandCallModel", name := "status", desc := "()I" } : Jvm.MethodName)) ∈ lw_all := lw_g (lw_at lw_m6 187 rfl) rfl
theorem q1528 : (Jvm.Cond.selects "IslandCallModel" ({ cls := "IslandCallModel", name := "status", desc := "()I" } : Jvm.MethodName) ({ cls := "IslandCallModel", name := "status", desc := "()I" } : Jvm.MethodName)) ∈ lw_all := lw_g (lw_at lw_m6 188 rfl) rfl
theorem q1529 : (Jvm.Cond.code ({ cls := "IslandCallModel", name := "status", desc := "()I" } : Jvm.MethodName) prog_15_method_3_code (1 : Nat) (Option.some Jvm.ClassFile.FieldType.int)) ∈ lw_all := lw_g (lw_at lw_m6 189 rfl) rfl
theorem q1531 : (Jvm.Cond.instanceMethod ({ cls := "IslandCallModel", name := "top", desc := "()J" } : Jvm.MethodName)) ∈ lw_all := lw_g (lw_at lw_m6 191 rfl) rfl
theorem q1532 : (Jvm.Cond.selects "IslandCallModel" ({ cls := "IslandCallModel", name := "top", desc := "()J" } : Jvm.MethodName) ({ cls := "IslandCallModel", name := "top", desc := "()J" } : Jvm.MethodName)) ∈ lw_all := lw_g (lw_at lw_m6 192 rfl) rfl
theorem q1533 : (Jvm.Cond.code ({ cls := "IslandCallModel", name := "top", desc := "()J" } : Jvm.MethodName) prog_15_method_4_code (1 : Nat) (Option.some Jvm.ClassFile.FieldType.long)) ∈ lw_all := lw_g (lw_at lw_m6 193 rfl) rfl
theorem q1535 : (Jvm.Cond.instanceMethod ({ cls := "IslandCallModel", name := "bottom", desc := "()J" } : Jvm.MethodName)) ∈ lw_all := lw_g (lw_at lw_m6 195 rfl) rfl
theorem q1536 : (Jvm.Cond.selects "IslandCallModel" ({ cls := "IslandCallModel", name := "bottom", desc := "()J" } : Jvm.MethodName) ({ cls := "IslandCallModel", name := "bottom", desc := "()J" } : Jvm.MethodName)) ∈ lw_all := lw_g (lw_at lw_m6 196 rfl) rfl
theorem q1537 : (Jvm.Cond.code ({ cls := "IslandCallModel", name := "bottom", desc := "()J" } : Jvm.MethodName) prog_15_method_5_code (1 : Nat) (Option.some Jvm.ClassFile.FieldType.long)) ∈ lw_all := lw_g (lw_at lw_m6 197 rfl) rfl
theorem q1539 : (Jvm.Cond.instanceMethod ({ cls := "IslandCallModel", name := "tray", desc := "(III)Z" } : Jvm.MethodName)) ∈ lw_all := lw_g (lw_at lw_m6 199 rfl) rfl
theorem q1540 : (Jvm.Cond.selects "IslandCallModel" ({ cls := "IslandCallModel", name := "tray", desc := "(III)Z" } : Jvm.MethodName) ({ cls := "IslandCallModel", name := "tray", desc := "(III)Z" } : Jvm.MethodName)) ∈ lw_all := lw_g (lw_at lw_m6 200 rfl) rfl
theorem q1541 : (Jvm.Cond.code ({ cls := "IslandCallModel", name := "tray", desc := "(III)Z" } : Jvm.MethodName) prog_15_method_13_code (5 : Nat) (Option.some Jvm.ClassFile.FieldType.boolean)) ∈ lw_all := lw_g (lw_at lw_m6 201 rfl) rfl
theorem q1542 : (Jvm.Cond.methodLink "IslandCallModel" (89 : Nat) ({ cls := "IslandCallModel", name := "isTray", desc := "(I)Z" } : Jvm.MethodName)) ∈ lw_all := lw_g (lw_at lw_m6 202 rfl) rfl
theorem q1543 : (Jvm.Cond.static ({ cls := "IslandCallModel", name := "isTray", desc := "(I)Z" } : Jvm.MethodName)) ∈ lw_all := lw_g (lw_at lw_m6 203 rfl) rfl
theorem q1544 : (Jvm.Cond.code ({ cls := "IslandCallModel", name := "isTray", desc := "(I)Z" } : Jvm.MethodName) prog_15_method_11_code (1 : Nat) (Option.some Jvm.ClassFile.FieldType.boolean)) ∈ lw_all := lw_g (lw_at lw_m6 204 rfl) rfl
theorem q1545 : (Jvm.Cond.methodLink "IslandCallModel" (85 : Nat) ({ cls := "IslandCallModel", name := "is", desc := "(I)Z" } : Jvm.MethodName)) ∈ lw_all := lw_g (lw_at lw_m6 205 rfl) rfl
theorem q1546 : (Jvm.Cond.privateMethod ({ cls := "IslandCallModel", name := "is", desc := "(I)Z" } : Jvm.MethodName)) ∈ lw_tbl := lw_at lw_m6 206 rfl
theorem q1547 : (Jvm.Cond.instanceMethod ({ cls := "IslandCallModel", name := "is", desc := "(I)Z" } : Jvm.MethodName)) ∈ lw_all := lw_g (lw_at lw_m6 207 rfl) rfl
theorem q1548 : (Jvm.Cond.code ({ cls := "IslandCallModel", name := "is", desc := "(I)Z" } : Jvm.MethodName) prog_15_method_6_code (2 : Nat) (Option.some Jvm.ClassFile.FieldType.boolean)) ∈ lw_all := lw_g (lw_at lw_m6 208 rfl) rfl
theorem q1550 : (Jvm.Cond.instanceMethod ({ cls := "IslandCallModel", name := "write", desc := "(IIJ)Z" } : Jvm.MethodName)) ∈ lw_all := lw_g (lw_at lw_m6 210 rfl) rfl
theorem q1551 : (Jvm.Cond.selects "IslandCallModel" ({ cls := "IslandCallModel", name := "write", desc := "(IIJ)Z" } : Jvm.MethodName) ({ cls := "IslandCallModel", name := "write", desc := "(IIJ)Z" } : Jvm.MethodName)) ∈ lw_all := lw_g (lw_at lw_m6 211 rfl) rfl
theorem q1552 : (Jvm.Cond.code ({ cls := "IslandCallModel", name := "write", desc := "(IIJ)Z" } : Jvm.MethodName) prog_15_method_15_code (6 : Nat) (Option.some Jvm.ClassFile.FieldType.boolean)) ∈ lw_all := lw_g (lw_at lw_m6 212 rfl) rfl
theorem q1553 : (Jvm.Cond.methodLink "IslandCallModel" (92 : Nat) ({ cls := "IslandCallModel", name := "wrongPlace", desc := "(II)I" } : Jvm.MethodName)) ∈ lw_all := lw_g (lw_at lw_m6 213 rfl) rfl
theorem q1554 : (Jvm.Cond.privateMethod ({ cls := "IslandCallModel", name := "wrongPlace", desc := "(II)I" } : Jvm.MethodName)) ∈ lw_tbl := lw_at lw_m6 214 rfl
theorem q1555 : (Jvm.Cond.instanceMethod ({ cls := "IslandCallModel", name := "wrongPlace", desc := "(II)I" } : Jvm.MethodName)) ∈ lw_all := lw_g (lw_at lw_m6 215 rfl) rfl
theorem q1556 : (Jvm.Cond.code ({ cls := "IslandCallModel", name := "wrongPlace", desc := "(II)I" } : Jvm.MethodName) prog_15_method_14_code (3 : Nat) (Option.some Jvm.ClassFile.FieldType.int)) ∈ lw_all := lw_g (lw_at lw_m6 216 rfl) rfl
theorem q1557 : (Jvm.Cond.methodLink "IslandCallModel" (96 : Nat) ({ cls := "IslandCallModel", name := "cut", desc := "(JI)J" } : Jvm.MethodName)) ∈ lw_all := lw_g (lw_at lw_m6 217 rfl) rfl
theorem q1558 : (Jvm.Cond.static ({ cls := "IslandCallModel", name := "cut", desc := "(JI)J" } : Jvm.MethodName)) ∈ lw_all := lw_g (lw_at lw_m6 218 rfl) rfl
theorem q1559 : (Jvm.Cond.code ({ cls := "IslandCallModel", name := "cut", desc := "(JI)J" } : Jvm.MethodName) prog_15_method_12_code (3 : Nat) (Option.some Jvm.ClassFile.FieldType.long)) ∈ lw_all := lw_g (lw_at lw_m6 219 rfl) rfl
theorem q1561 : (Jvm.Cond.instanceMethod ({ cls := "IslandCallModel", name := "read", desc := "(II)J" } : Jvm.MethodName)) ∈ lw_all := lw_g (lw_at lw_m6 221 rfl) rfl
theorem q1562 : (Jvm.Cond.selects "IslandCallModel" ({ cls := "IslandCallModel", name := "read", desc := "(II)J" } : Jvm.MethodName) ({ cls := "IslandCallModel", name := "read", desc := "(II)J" } : Jvm.MethodName)) ∈ lw_all := lw_g (lw_at lw_m6 222 rfl) rfl
theorem q1563 : (Jvm.Cond.code ({ cls := "IslandCallModel", name := "read", desc := "(II)J" } : Jvm.MethodName) prog_15_method_16_code (3 : Nat) (Option.some Jvm.ClassFile.FieldType.long)) ∈ lw_all := lw_g (lw_at lw_m6 223 rfl) rfl
theorem q1564 : (Jvm.Cond.constantLong "IslandCallModel" (100 : Nat) (-1 : Int64)) ∈ lw_all := lw_g (lw_at lw_m6 224 rfl) rfl
theorem q1566 : (Jvm.Cond.instanceMethod ({ cls := "IslandCallModel", name := "pour", desc := "(IIIII)Z" } : Jvm.MethodName)) ∈ lw_all := lw_g (lw_at lw_m6 226 rfl) rfl
theorem q1567 : (Jvm.Cond.selects "IslandCallModel" ({ cls := "IslandCallModel", name := "pour", desc := "(IIIII)Z" } : Jvm.MethodName) ({ cls := "IslandCallModel", name := "pour", desc := "(IIIII)Z" } : Jvm.MethodName)) ∈ lw_all := lw_g (lw_at lw_m6 227 rfl) rfl
theorem q1568 : (Jvm.Cond.code ({ cls := "IslandCallModel", name := "pour", desc := "(IIIII)Z" } : Jvm.MethodName) prog_15_method_17_code (8 : Nat) (Option.some Jvm.ClassFile.FieldType.boolean)) ∈ lw_all := lw_g (lw_at lw_m6 228 rfl) rfl
theorem q1570 : (Jvm.Cond.instanceMethod ({ cls := "IslandCallModel", name := "feed", desc := "(IIIII)I" } : Jvm.MethodName)) ∈ lw_all := lw_g (lw_at lw_m6 230 rfl) rfl
theorem q1571 : (Jvm.Cond.selects "IslandCallModel" ({ cls := "IslandCallModel", name := "feed", desc := "(IIIII)I" } : Jvm.MethodName) ({ cls := "IslandCallModel", name := "feed", desc := "(IIIII)I" } : Jvm.MethodName)) ∈ lw_all := lw_g (lw_at lw_m6 231 rfl) rfl
theorem q1572 : (Jvm.Cond.code ({ cls := "IslandCallModel", name := "feed", desc := "(IIIII)I" } : Jvm.MethodName) prog_15_method_19_code (6 : Nat) (Option.some Jvm.ClassFile.FieldType.int)) ∈ lw_all := lw_g (lw_at lw_m6 232 rfl) rfl
theorem q1573 : (Jvm.Cond.methodLink "IslandCallModel" (105 : Nat) ({ cls := "IslandCallModel", name := "four", desc := "(I)V" } : Jvm.MethodName)) ∈ lw_all := lw_g (lw_at lw_m6 233 rfl) rfl
theorem q1574 : (Jvm.Cond.privateMethod ({ cls := "IslandCallModel", name := "four", desc := "(I)V" } : Jvm.MethodName)) ∈ lw_tbl := lw_at lw_m6 234 rfl
theorem q1575 : (Jvm.Cond.instanceMethod ({ cls := "IslandCallModel", name := "four", desc := "(I)V" } : Jvm.MethodName)) ∈ lw_all := lw_g (lw_at lw_m6 235 rfl) rfl
theorem q1576 : (Jvm.Cond.code ({ cls := "IslandCallModel", name := "four", desc := "(I)V" } : Jvm.MethodName) prog_15_method_20_code (3 : Nat) (Option.none : Option Jvm.ClassFile.FieldType)) ∈ lw_all := lw_g (lw_at lw_m6 236 rfl) rfl
theorem q1578 : (Jvm.Cond.instanceMethod ({ cls := "IslandCallModel", name := "fault", desc := "(I)I" } : Jvm.MethodName)) ∈ lw_all := lw_g (lw_at lw_m6 238 rfl) rfl
theorem q1579 : (Jvm.Cond.selects "IslandCallModel" ({ cls := "IslandCallModel", name := "fault", desc := "(I)I" } : Jvm.MethodName) ({ cls := "IslandCallModel", name := "fault", desc := "(I)I" } : Jvm.MethodName)) ∈ lw_all := lw_g (lw_at lw_m6 239 rfl) rfl
theorem q1580 : (Jvm.Cond.code ({ cls := "IslandCallModel", name := "fault", desc := "(I)I" } : Jvm.MethodName) prog_15_method_35_code (2 : Nat) (Option.some Jvm.ClassFile.FieldType.int)) ∈ lw_all := lw_g (lw_at lw_m7 0 rfl) rfl
theorem q1582 : (Jvm.Cond.instanceMethod ({ cls := "IslandCallModel", name := "boat", desc := "(I)I" } : Jvm.MethodName)) ∈ lw_all := lw_g (lw_at lw_m7 2 rfl) rfl
theorem q1583 : (Jvm.Cond.selects "IslandCallModel" ({ cls := "IslandCallModel", name := "boat", desc := "(I)I" } : Jvm.MethodName) ({ cls := "IslandCallModel", name := "boat", desc := "(I)I" } : Jvm.MethodName)) ∈ lw_all := lw_g (lw_at lw_m7 3 rfl) rfl
theorem q1584 : (Jvm.Cond.code ({ cls := "IslandCallModel", name := "boat", desc := "(I)I" } : Jvm.MethodName) prog_15_method_47_code (4 : Nat) (Option.some Jvm.ClassFile.FieldType.int)) ∈ lw_all := lw_g (lw_at lw_m7 4 rfl) rfl
theorem q1585 : (Jvm.Cond.methodLink "IslandCallModel" (222 : Nat) ({ cls := "IslandCallModel", name := "begins", desc := "(II)Z" } : Jvm.MethodName)) ∈ lw_all := lw_g (lw_at lw_m7 5 rfl) rfl
theorem q1586 : (Jvm.Cond.privateMethod ({ cls := "IslandCallModel", name := "begins", desc := "(II)Z" } : Jvm.MethodName)) ∈ lw_tbl := lw_at lw_m7 6 rfl
theorem q1587 : (Jvm.Cond.instanceMethod ({ cls := "IslandCallModel", name := "begins", desc := "(II)Z" } : Jvm.MethodName)) ∈ lw_all := lw_g (lw_at lw_m7 7 rfl) rfl
theorem q1588 : (Jvm.Cond.code ({ cls := "IslandCallModel", name := "begins", desc := "(II)Z" } : Jvm.MethodName) prog_15_method_28_code (4 : Nat) (Option.some Jvm.ClassFile.FieldType.boolean)) ∈ lw_all := lw_g (lw_at lw_m7 8 rfl) rfl
theorem q1589 : (Jvm.Cond.methodLink "IslandCallModel" (154 : Nat) ({ cls := "IslandCallModel", name := "ahead", desc := "()V" } : Jvm.MethodName)) ∈ lw_all := lw_g (lw_at lw_m7 9 rfl) rfl
theorem q1590 : (Jvm.Cond.privateMethod ({ cls := "IslandCallModel", name := "ahead", desc := "()V" } : Jvm.MethodName)) ∈ lw_tbl := lw_at lw_m7 10 rfl
theorem q1591 : (Jvm.Cond.instanceMethod ({ cls := "IslandCallModel", name := "ahead", desc := "()V" } : Jvm.MethodName)) ∈ lw_all := lw_g (lw_at lw_m7 11 rfl) rfl
theorem q1592 : (Jvm.Cond.code ({ cls := "IslandCallModel", name := "ahead", desc := "()V" } : Jvm.MethodName) prog_15_method_24_code (2 : Nat) (Option.none : Option Jvm.ClassFile.FieldType)) ∈ lw_all := lw_g (lw_at lw_m7 12 rfl) rfl
theorem q1593 : (Jvm.Cond.methodLink "IslandCallModel" (114 : Nat) ({ cls := "IslandCallModel", name := "byteAt", desc := "(I)I" } : Jvm.MethodName)) ∈ lw_all := lw_g (lw_at lw_m7 13 rfl) rfl
theorem q1594 : (Jvm.Cond.privateMethod ({ cls := "IslandCallModel", name := "byteAt", desc := "(I)I" } : Jvm.MethodName)) ∈ lw_tbl := lw_at lw_m7 14 rfl
theorem q1595 : (Jvm.Cond.instanceMethod ({ cls := "IslandCallModel", name := "byteAt", desc := "(I)I" } : Jvm.MethodName)) ∈ lw_all := lw_g (lw_at lw_m7 15 rfl) rfl
theorem q1596 : (Jvm.Cond.code ({ cls := "IslandCallModel", name := "byteAt", desc := "(I)I" } : Jvm.MethodName) prog_15_method_21_code (2 : Nat) (Option.some Jvm.ClassFile.FieldType.int)) ∈ lw_all := lw_g (lw_at lw_m7 16 rfl) rfl
theorem q1597 : (Jvm.Cond.methodLink "IslandCallModel" (126 : Nat) ({ cls := "IslandCallModel", name := "isSmall", desc := "(I)Z" } : Jvm.MethodName)) ∈ lw_all := lw_g (lw_at lw_m7 17 rfl) rfl
theorem q1598 : (Jvm.Cond.static ({ cls := "IslandCallModel", name := "isSmall", desc := "(I)Z" } : Jvm.MethodName)) ∈ lw_all := lw_g (lw_at lw_m7 18 rfl) rfl
theorem q1599 : (Jvm.Cond.code ({ cls := "IslandCallModel", name := "isSmall", desc := "(I)Z" } : Jvm.MethodName) prog_15_method_22_code (1 : Nat) (Option.some Jvm.ClassFile.FieldType.boolean)) ∈ lw_all := lw_g (lw_at lw_m7 19 rfl) rfl
theorem q1600 : (Jvm.Cond.methodLink "IslandCallModel" (129 : Nat) ({ cls := "IslandCallModel", name := "isDigit", desc := "(I)Z" } : Jvm.MethodName)) ∈ lw_all := lw_g (lw_at lw_m7 20 rfl) rfl
theorem q1601 : (Jvm.Cond.static ({ cls := "IslandCallModel", name := "isDigit", desc := "(I)Z" } : Jvm.MethodName)) ∈ lw_all := lw_g (lw_at lw_m7 21 rfl) rfl
theorem q1602 : (Jvm.Cond.code ({ cls := "IslandCallModel", name := "isDigit", desc := "(I)Z" } : Jvm.MethodName) prog_15_method_23_code (1 : Nat) (Option.some Jvm.ClassFile.FieldType.boolean)) ∈ lw_all := lw_g (lw_at lw_m7 22 rfl) rfl
theorem q1603 : (Jvm.Cond.constant "IslandCallModel" (132 : Nat) (100000 : Int32)) ∈ lw_all := lw_g (lw_at lw_m7 23 rfl) rfl
theorem q1604 : (Jvm.Cond.methodLink "IslandCallModel" (133 : Nat) ({ cls := "java/lang/Math", name := "min", desc := "(II)I" } : Jvm.MethodName)) ∈ lw_all := lw_g (lw_at lw_m7 24 rfl) rfl
theorem q1605 : (Jvm.Cond.methodLink "IslandCallModel" (78 : Nat) ({ cls := "IslandCallModel", name := "refuse", desc := "(I)I" } : Jvm.MethodName)) ∈ lw_all := lw_g (lw_at lw_m7 25 rfl) rfl
theorem q1606 : (Jvm.Cond.privateMethod ({ cls := "IslandCallModel", name := "refuse", desc := "(I)I" } : Jvm.MethodName)) ∈ lw_tbl := lw_at lw_m7 26 rfl
theorem q1607 : (Jvm.Cond.instanceMethod ({ cls := "IslandCallModel", name := "refuse", desc := "(I)I" } : Jvm.MethodName)) ∈ lw_all := lw_g (lw_at lw_m7 27 rfl) rfl
theorem q1608 : (Jvm.Cond.code ({ cls := "IslandCallModel", name := "refuse", desc := "(I)I" } : Jvm.MethodName) prog_15_method_7_code (2 : Nat) (Option.some Jvm.ClassFile.FieldType.int)) ∈ lw_all := lw_g (lw_at lw_m7 28 rfl) rfl
theorem q1609 : (Jvm.Cond.methodLink "IslandCallModel" (226 : Nat) ({ cls := "IslandCallModel", name := "boatPart", desc := "()Z" } : Jvm.MethodName)) ∈ lw_all := lw_g (lw_at lw_m7 29 rfl) rfl
theorem q1610 : (Jvm.Cond.privateMethod ({ cls := "IslandCallModel", name := "boatPart", desc := "()Z" } : Jvm.MethodName)) ∈ lw_tbl := lw_at lw_m7 30 rfl
theorem q1611 : (Jvm.Cond.instanceMethod ({ cls := "IslandCallModel", name := "boatPart", desc := "()Z" } : Jvm.MethodName)) ∈ lw_all := lw_g (lw_at lw_m7 31 rfl) rfl
theorem q1612 : (Jvm.Cond.code ({ cls := "IslandCallModel", name := "boatPart", desc := "()Z" } : Jvm.MethodName) prog_15_method_46_code (3 : Nat) (Option.some Jvm.ClassFile.FieldType.boolean)) ∈ lw_all := lw_g (lw_at lw_m7 32 rfl) rfl
theorem q1613 : (Jvm.Cond.stringRef "IslandCallModel" (171 : Nat) " plank habit odds sign person blind pulls shown holds out against call show hide board sway any when loop end stop shows ") ∈ lw_tbl := lw_at lw_m7 33 rfl
theorem q1614 : (Jvm.Cond.methodLink "IslandCallModel" (163 : Nat) ({ cls := "IslandCallModel", name := "inWords", desc := "(Ljava/lang/String;)I" } : Jvm.MethodName)) ∈ lw_all := lw_g (lw_at lw_m7 34 rfl) rfl
theorem q1615 : (Jvm.Cond.privateMethod ({ cls := "IslandCallModel", name := "inWords", desc := "(Ljava/lang/String;)I" } : Jvm.MethodName)) ∈ lw_tbl := lw_at lw_m7 35 rfl
theorem q1616 : (Jvm.Cond.instanceMethod ({ cls := "IslandCallModel", name := "inWords", desc := "(Ljava/lang/String;)I" } : Jvm.MethodName)) ∈ lw_all := lw_g (lw_at lw_m7 36 rfl) rfl
theorem q1617 : (Jvm.Cond.code ({ cls := "IslandCallModel", name := "inWords", desc := "(Ljava/lang/String;)I" } : Jvm.MethodName) prog_15_method_26_code (7 : Nat) (Option.some Jvm.ClassFile.FieldType.int)) ∈ lw_all := lw_g (lw_at lw_m7 37 rfl) rfl
theorem q1618 : (Jvm.Cond.methodLink "IslandCallModel" (138 : Nat) ({ cls := "java/lang/String", name := "length", desc := "()I" } : Jvm.MethodName)) ∈ lw_all := lw_g (lw_at lw_m7 38 rfl) rfl
theorem q1619 : (Jvm.Cond.methodLink "IslandCallModel" (144 : Nat) ({ cls := "java/lang/String", name := "charAt", desc := "(I)C" } : Jvm.MethodName)) ∈ lw_all := lw_g (lw_at lw_m7 39 rfl) rfl
theorem q1620 : (Jvm.Cond.methodLink "IslandCallModel" (160 : Nat) ({ cls := "IslandCallModel", name := "fails", desc := "(I)Z" } : Jvm.MethodName)) ∈ lw_all := lw_g (lw_at lw_m7 40 rfl) rfl
theorem q1621 : (Jvm.Cond.privateMethod ({ cls := "IslandCallModel", name := "fails", desc := "(I)Z" } : Jvm.MethodName)) ∈ lw_tbl := lw_at lw_m7 41 rfl
theorem q1622 : (Jvm.Cond.instanceMethod ({ cls := "IslandCallModel", name := "fails", desc := "(I)Z" } : Jvm.MethodName)) ∈ lw_all := lw_g (lw_at lw_m7 42 rfl) rfl
theorem q1623 : (Jvm.Cond.code ({ cls := "IslandCallModel", name := "fails", desc := "(I)Z" } : Jvm.MethodName) prog_15_method_27_code (2 : Nat) (Option.some Jvm.ClassFile.FieldType.boolean)) ∈ lw_all := lw_g (lw_at lw_m7 43 rfl) rfl
theorem q1624 : (Jvm.Cond.methodLink "IslandCallModel" (188 : Nat) ({ cls := "IslandCallModel", name := "number", desc := "(III)Z" } : Jvm.MethodName)) ∈ lw_all := lw_g (lw_at lw_m7 44 rfl) rfl
theorem q1625 : (Jvm.Cond.privateMethod ({ cls := "IslandCallModel", name := "number", desc := "(III)Z" } : Jvm.MethodName)) ∈ lw_tbl := lw_at lw_m7 45 rfl
theorem q1626 : (Jvm.Cond.instanceMethod ({ cls := "IslandCallModel", name := "number", desc := "(III)Z" } : Jvm.MethodName)) ∈ lw_all := lw_g (lw_at lw_m7 46 rfl) rfl
theorem q1627 : (Jvm.Cond.code ({ cls := "IslandCallModel", name := "number", desc := "(III)Z" } : Jvm.MethodName) prog_15_method_31_code (4 : Nat) (Option.some Jvm.ClassFile.FieldType.boolean)) ∈ lw_all := lw_g (lw_at lw_m7 47 rfl) rfl
theorem q1628 : (Jvm.Cond.methodLink "IslandCallModel" (209 : Nat) ({ cls := "IslandCallModel", name := "anOmen", desc := "()Z" } : Jvm.MethodName)) ∈ lw_all := lw_g (lw_at lw_m7 48 rfl) rfl
theorem q1629 : (Jvm.Cond.privateMethod ({ cls := "IslandCallModel", name := "anOmen", desc := "()Z" } : Jvm.MethodName)) ∈ lw_tbl := lw_at lw_m7 49 rfl
theorem q1630 : (Jvm.Cond.instanceMethod ({ cls := "IslandCallModel", name := "anOmen", desc := "()Z" } : Jvm.MethodName)) ∈ lw_all := lw_g (lw_at lw_m7 50 rfl) rfl
theorem q1631 : (Jvm.Cond.code ({ cls := "IslandCallModel", name := "anOmen", desc := "()Z" } : Jvm.MethodName) prog_15_method_41_code (2 : Nat) (Option.some Jvm.ClassFile.FieldType.boolean)) ∈ lw_all := lw_g (lw_at lw_m7 51 rfl) rfl
theorem q1632 : (Jvm.Cond.methodLink "IslandCallModel" (180 : Nat) ({ cls := "IslandCallModel", name := "newOne", desc := "(III)Z" } : Jvm.MethodName)) ∈ lw_all := lw_g (lw_at lw_m7 52 rfl) rfl
theorem q1633 : (Jvm.Cond.privateMethod ({ cls := "IslandCallModel", name := "newOne", desc := "(III)Z" } : Jvm.MethodName)) ∈ lw_tbl := lw_at lw_m7 53 rfl
theorem q1634 : (Jvm.Cond.instanceMethod ({ cls := "IslandCallModel", name := "newOne", desc := "(III)Z" } : Jvm.MethodName)) ∈ lw_all := lw_g (lw_at lw_m7 54 rfl) rfl
theorem q1635 : (Jvm.Cond.code ({ cls := "IslandCallModel", name := "newOne", desc := "(III)Z" } : Jvm.MethodName) prog_15_method_39_code (4 : Nat) (Option.some Jvm.ClassFile.FieldType.boolean)) ∈ lw_all := lw_g (lw_at lw_m7 55 rfl) rfl
theorem q1636 : (Jvm.Cond.methodLink "IslandCallModel" (173 : Nat) ({ cls := "IslandCallModel", name := "isName", desc := "(Ljava/lang/String;)Z" } : Jvm.MethodName)) ∈ lw_all := lw_g (lw_at lw_m7 56 rfl) rfl
theorem q1637 : (Jvm.Cond.privateMethod ({ cls := "IslandCallModel", name := "isName", desc := "(Ljava/lang/String;)Z" } : Jvm.MethodName)) ∈ lw_tbl := lw_at lw_m7 57 rfl
theorem q1638 : (Jvm.Cond.instanceMethod ({ cls := "IslandCallModel", name := "isName", desc := "(Ljava/lang/String;)Z" } : Jvm.MethodName)) ∈ lw_all := lw_g (lw_at lw_m7 58 rfl) rfl
theorem q1639 : (Jvm.Cond.code ({ cls := "IslandCallModel", name := "isName", desc := "(Ljava/lang/String;)Z" } : Jvm.MethodName) prog_15_method_32_code (2 : Nat) (Option.some Jvm.ClassFile.FieldType.boolean)) ∈ lw_all := lw_g (lw_at lw_m7 59 rfl) rfl
theorem q1640 : (Jvm.Cond.methodLink "IslandCallModel" (177 : Nat) ({ cls := "IslandCallModel", name := "findHere", desc := "(II)I" } : Jvm.MethodName)) ∈ lw_all := lw_g (lw_at lw_m7 60 rfl) rfl
theorem q1641 : (Jvm.Cond.privateMethod ({ cls := "IslandCallModel", name := "findHere", desc := "(II)I" } : Jvm.MethodName)) ∈ lw_tbl := lw_at lw_m7 61 rfl
theorem q1642 : (Jvm.Cond.instanceMethod ({ cls := "IslandCallModel", name := "findHere", desc := "(II)I" } : Jvm.MethodName)) ∈ lw_all := lw_g (lw_at lw_m7 62 rfl) rfl
theorem q1643 : (Jvm.Cond.code ({ cls := "IslandCallModel", name := "findHere", desc := "(II)I" } : Jvm.MethodName) prog_15_method_34_code (4 : Nat) (Option.some Jvm.ClassFile.FieldType.int)) ∈ lw_all := lw_g (lw_at lw_m7 63 rfl) rfl
theorem q1644 : (Jvm.Cond.methodLink "IslandCallModel" (167 : Nat) ({ cls := "IslandCallModel", name := "nameHere", desc := "()J" } : Jvm.MethodName)) ∈ lw_all := lw_g (lw_at lw_m7 64 rfl) rfl
theorem q1645 : (Jvm.Cond.privateMethod ({ cls := "IslandCallModel", name := "nameHere", desc := "()J" } : Jvm.MethodName)) ∈ lw_tbl := lw_at lw_m7 65 rfl
theorem q1646 : (Jvm.Cond.instanceMethod ({ cls := "IslandCallModel", name := "nameHere", desc := "()J" } : Jvm.MethodName)) ∈ lw_all := lw_g (lw_at lw_m7 66 rfl) rfl
theorem q1647 : (Jvm.Cond.code ({ cls := "IslandCallModel", name := "nameHere", desc := "()J" } : Jvm.MethodName) prog_15_method_33_code (4 : Nat) (Option.some Jvm.ClassFile.FieldType.long)) ∈ lw_all := lw_g (lw_at lw_m7 67 rfl) rfl
theorem q1648 : (Jvm.Cond.methodLink "IslandCallModel" (184 : Nat) ({ cls := "IslandCallModel", name := "wantWord", desc := "(Ljava/lang/String;I)Z" } : Jvm.MethodName)) ∈ lw_all := lw_g (lw_at lw_m7 68 rfl) rfl
theorem q1649 : (Jvm.Cond.privateMethod ({ cls := "IslandCallModel", name := "wantWord", desc := "(Ljava/lang/String;I)Z" } : Jvm.MethodName)) ∈ lw_tbl := lw_at lw_m7 69 rfl
theorem q1650 : (Jvm.Cond.instanceMethod ({ cls := "IslandCallModel", name := "wantWord", desc := "(Ljava/lang/String;I)Z" } : Jvm.MethodName)) ∈ lw_all := lw_g (lw_at lw_m7 70 rfl) rfl
theorem q1651 : (Jvm.Cond.code ({ cls := "IslandCallModel", name := "wantWord", desc := "(Ljava/lang/String;I)Z" } : Jvm.MethodName) prog_15_method_30_code (3 : Nat) (Option.some Jvm.ClassFile.FieldType.boolean)) ∈ lw_all := lw_g (lw_at lw_m7 71 rfl) rfl
theorem q1652 : (Jvm.Cond.methodLink "IslandCallModel" (191 : Nat) ({ cls := "IslandCallModel", name := "isThere", desc := "(I)Z" } : Jvm.MethodName)) ∈ lw_all := lw_g (lw_at lw_m7 72 rfl) rfl
theorem q1653 : (Jvm.Cond.privateMethod ({ cls := "IslandCallModel", name := "isThere", desc := "(I)Z" } : Jvm.MethodName)) ∈ lw_tbl := lw_at lw_m7 73 rfl
theorem q1654 : (Jvm.Cond.instanceMethod ({ cls := "IslandCallModel", name := "isThere", desc := "(I)Z" } : Jvm.MethodName)) ∈ lw_all := lw_g (lw_at lw_m7 74 rfl) rfl
theorem q1655 : (Jvm.Cond.code ({ cls := "IslandCallModel", name := "isThere", desc := "(I)Z" } : Jvm.MethodName) prog_15_method_38_code (2 : Nat) (Option.some Jvm.ClassFile.FieldType.boolean)) ∈ lw_all := lw_g (lw_at lw_m7 75 rfl) rfl
theorem q1656 : (Jvm.Cond.methodLink "IslandCallModel" (213 : Nat) ({ cls := "IslandCallModel", name := "aPerson", desc := "()Z" } : Jvm.MethodName)) ∈ lw_all := lw_g (lw_at lw_m7 76 rfl) rfl
theorem q1657 : (Jvm.Cond.privateMethod ({ cls := "IslandCallModel", name := "aPerson", desc := "()Z" } : Jvm.MethodName)) ∈ lw_tbl := lw_at lw_m7 77 rfl
theorem q1658 : (Jvm.Cond.instanceMethod ({ cls := "IslandCallModel", name := "aPerson", desc := "()Z" } : Jvm.MethodName)) ∈ lw_all := lw_g (lw_at lw_m7 78 rfl) rfl
theorem q1659 : (Jvm.Cond.code ({ cls := "IslandCallModel", name := "aPerson", desc := "()Z" } : Jvm.MethodName) prog_15_method_43_code (3 : Nat) (Option.some Jvm.ClassFile.FieldType.boolean)) ∈ lw_all := lw_g (lw_at lw_m7 79 rfl) rfl
theorem q1660 : (Jvm.Cond.methodLink "IslandCallModel" (194 : Nat) ({ cls := "IslandCallModel", name := "personRow", desc := "(I)I" } : Jvm.MethodName)) ∈ lw_all := lw_g (lw_at lw_m7 80 rfl) rfl
theorem q1661 : (Jvm.Cond.static ({ cls := "IslandCallModel", name := "personRow", desc := "(I)I" } : Jvm.MethodName)) ∈ lw_all := lw_g (lw_at lw_m7 81 rfl) rfl
theorem q1662 : (Jvm.Cond.code ({ cls := "IslandCallModel", name := "personRow", desc := "(I)I" } : Jvm.MethodName) prog_15_method_37_code (1 : Nat) (Option.some Jvm.ClassFile.FieldType.int)) ∈ lw_all := lw_g (lw_at lw_m7 82 rfl) rfl
theorem q1663 : (Jvm.Cond.methodLink "IslandCallModel" (197 : Nat) ({ cls := "IslandCallModel", name := "excuses", desc := "(I)Z" } : Jvm.MethodName)) ∈ lw_all := lw_g (lw_at lw_m7 83 rfl) rfl
theorem q1664 : (Jvm.Cond.privateMethod ({ cls := "IslandCallModel", name := "excuses", desc := "(I)Z" } : Jvm.MethodName)) ∈ lw_tbl := lw_at lw_m7 84 rfl
theorem q1665 : (Jvm.Cond.instanceMethod ({ cls := "IslandCallModel", name := "excuses", desc := "(I)Z" } : Jvm.MethodName)) ∈ lw_all := lw_g (lw_at lw_m7 85 rfl) rfl
theorem q1666 : (Jvm.Cond.code ({ cls := "IslandCallModel", name := "excuses", desc := "(I)Z" } : Jvm.MethodName) prog_15_method_42_code (4 : Nat) (Option.some Jvm.ClassFile.FieldType.boolean)) ∈ lw_all := lw_g (lw_at lw_m7 86 rfl) rfl
theorem q1667 : (Jvm.Cond.methodLink "IslandCallModel" (216 : Nat) ({ cls := "IslandCallModel", name := "aBlindness", desc := "()Z" } : Jvm.MethodName)) ∈ lw_all := lw_g (lw_at lw_m7 87 rfl) rfl
theorem q1668 : (Jvm.Cond.privateMethod ({ cls := "IslandCallModel", name := "aBlindness", desc := "()Z" } : Jvm.MethodName)) ∈ lw_tbl := lw_at lw_m7 88 rfl
theorem q1669 : (Jvm.Cond.instanceMethod ({ cls := "IslandCallModel", name := "aBlindness", desc := "()Z" } : Jvm.MethodName)) ∈ lw_all := lw_g (lw_at lw_m7 89 rfl) rfl
theorem q1670 : (Jvm.Cond.code ({ cls := "IslandCallModel", name := "aBlindness", desc := "()Z" } : Jvm.MethodName) prog_15_method_45_code (2 : Nat) (Option.some Jvm.ClassFile.FieldType.boolean)) ∈ lw_all := lw_g (lw_at lw_m7 90 rfl) rfl
theorem q1671 : (Jvm.Cond.methodLink "IslandCallModel" (203 : Nat) ({ cls := "IslandCallModel", name := "newPersonTo", desc := "(I)Z" } : Jvm.MethodName)) ∈ lw_all := lw_g (lw_at lw_m7 91 rfl) rfl
theorem q1672 : (Jvm.Cond.privateMethod ({ cls := "IslandCallModel", name := "newPersonTo", desc := "(I)Z" } : Jvm.MethodName)) ∈ lw_tbl := lw_at lw_m7 92 rfl
theorem q1673 : (Jvm.Cond.instanceMethod ({ cls := "IslandCallModel", name := "newPersonTo", desc := "(I)Z" } : Jvm.MethodName)) ∈ lw_all := lw_g (lw_at lw_m7 93 rfl) rfl
theorem q1674 : (Jvm.Cond.code ({ cls := "IslandCallModel", name := "newPersonTo", desc := "(I)Z" } : Jvm.MethodName) prog_15_method_44_code (2 : Nat) (Option.some Jvm.ClassFile.FieldType.boolean)) ∈ lw_all := lw_g (lw_at lw_m7 94 rfl) rfl
theorem q1675 : (Jvm.Cond.methodLink "IslandCallModel" (200 : Nat) ({ cls := "IslandCallModel", name := "oldOne", desc := "(III)Z" } : Jvm.MethodName)) ∈ lw_all := lw_g (lw_at lw_m7 95 rfl) rfl
theorem q1676 : (Jvm.Cond.privateMethod ({ cls := "IslandCallModel", name := "oldOne", desc := "(III)Z" } : Jvm.MethodName)) ∈ lw_tbl := lw_at lw_m7 96 rfl
theorem q1677 : (Jvm.Cond.instanceMethod ({ cls := "IslandCallModel", name := "oldOne", desc := "(III)Z" } : Jvm.MethodName)) ∈ lw_all := lw_g (lw_at lw_m7 97 rfl) rfl
theorem q1678 : (Jvm.Cond.code ({ cls := "IslandCallModel", name := "oldOne", desc := "(III)Z" } : Jvm.MethodName) prog_15_method_40_code (4 : Nat) (Option.some Jvm.ClassFile.FieldType.boolean)) ∈ lw_all := lw_g (lw_at lw_m7 98 rfl) rfl
theorem q1679 : (Jvm.Cond.methodLink "IslandCallModel" (219 : Nat) ({ cls := "IslandCallModel", name := "wantSign", desc := "(I)Z" } : Jvm.MethodName)) ∈ lw_all := lw_g (lw_at lw_m7 99 rfl) rfl
theorem q1680 : (Jvm.Cond.privateMethod ({ cls := "IslandCallModel", name := "wantSign", desc := "(I)Z" } : Jvm.MethodName)) ∈ lw_tbl := lw_at lw_m7 100 rfl
theorem q1681 : (Jvm.Cond.instanceMethod ({ cls := "IslandCallModel", name := "wantSign", desc := "(I)Z" } : Jvm.MethodName)) ∈ lw_all := lw_g (lw_at lw_m7 101 rfl) rfl
theorem q1682 : (Jvm.Cond.code ({ cls := "IslandCallModel", name := "wantSign", desc := "(I)Z" } : Jvm.MethodName) prog_15_method_29_code (2 : Nat) (Option.some Jvm.ClassFile.FieldType.boolean)) ∈ lw_all := lw_g (lw_at lw_m7 102 rfl) rfl
theorem q1683 : (Jvm.Cond.methodLink "IslandCallModel" (157 : Nat) ({ cls := "IslandCallModel", name := "isSign", desc := "(I)Z" } : Jvm.MethodName)) ∈ lw_all := lw_g (lw_at lw_m7 103 rfl) rfl
theorem q1684 : (Jvm.Cond.privateMethod ({ cls := "IslandCallModel", name := "isSign", desc := "(I)Z" } : Jvm.MethodName)) ∈ lw_tbl := lw_at lw_m7 104 rfl
theorem q1685 : (Jvm.Cond.instanceMethod ({ cls := "IslandCallModel", name := "isSign", desc := "(I)Z" } : Jvm.MethodName)) ∈ lw_all := lw_g (lw_at lw_m7 105 rfl) rfl
theorem q1686 : (Jvm.Cond.code ({ cls := "IslandCallModel", name := "isSign", desc := "(I)Z" } : Jvm.MethodName) prog_15_method_25_code (2 : Nat) (Option.some Jvm.ClassFile.FieldType.boolean)) ∈ lw_all := lw_g (lw_at lw_m7 106 rfl) rfl
theorem q1687 : (Jvm.Cond.methodLink "IslandCallModel" (229 : Nat) ({ cls := "IslandCallModel", name := "taken", desc := "(I)I" } : Jvm.MethodName)) ∈ lw_all := lw_g (lw_at lw_m7 107 rfl) rfl
theorem q1688 : (Jvm.Cond.privateMethod ({ cls := "IslandCallModel", name := "taken", desc := "(I)I" } : Jvm.MethodName)) ∈ lw_tbl := lw_at lw_m7 108 rfl
theorem q1689 : (Jvm.Cond.instanceMethod ({ cls := "IslandCallModel", name := "taken", desc := "(I)I" } : Jvm.MethodName)) ∈ lw_all := lw_g (lw_at lw_m7 109 rfl) rfl
theorem q1690 : (Jvm.Cond.code ({ cls := "IslandCallModel", name := "taken", desc := "(I)I" } : Jvm.MethodName) prog_15_method_36_code (2 : Nat) (Option.some Jvm.ClassFile.FieldType.int)) ∈ lw_all := lw_g (lw_at lw_m7 110 rfl) rfl
theorem q1691 : (Jvm.Cond.methodLink "IslandCallModel" (82 : Nat) ({ cls := "IslandCallModel", name := "gives", desc := "(I)I" } : Jvm.MethodName)) ∈ lw_all := lw_g (lw_at lw_m7 111 rfl) rfl
theorem q1692 : (Jvm.Cond.privateMethod ({ cls := "IslandCallModel", name := "gives", desc := "(I)I" } : Jvm.MethodName)) ∈ lw_tbl := lw_at lw_m7 112 rfl
theorem q1693 : (Jvm.Cond.instanceMethod ({ cls := "IslandCallModel", name := "gives", desc := "(I)I" } : Jvm.MethodName)) ∈ lw_all := lw_g (lw_at lw_m7 113 rfl) rfl
theorem q1694 : (Jvm.Cond.code ({ cls := "IslandCallModel", name := "gives", desc := "(I)I" } : Jvm.MethodName) prog_15_method_8_code (2 : Nat) (Option.some Jvm.ClassFile.FieldType.int)) ∈ lw_all := lw_g (lw_at lw_m7 114 rfl) rfl
theorem q1696 : (Jvm.Cond.instanceMethod ({ cls := "IslandCallModel", name := "years", desc := "(I)I" } : Jvm.MethodName)) ∈ lw_all := lw_g (lw_at lw_m7 116 rfl) rfl
theorem q1697 : (Jvm.Cond.selects "IslandCallModel" ({ cls := "IslandCallModel", name := "years", desc := "(I)I" } : Jvm.MethodName) ({ cls := "IslandCallModel", name := "years", desc := "(I)I" } : Jvm.MethodName)) ∈ lw_all := lw_g (lw_at lw_m7 117 rfl) rfl
theorem q1698 : (Jvm.Cond.code ({ cls := "IslandCallModel", name := "years", desc := "(I)I" } : Jvm.MethodName) prog_15_method_53_code (4 : Nat) (Option.some Jvm.ClassFile.FieldType.int)) ∈ lw_all := lw_g (lw_at lw_m7 118 rfl) rfl
theorem q1699 : (Jvm.Cond.methodLink "IslandCallModel" (250 : Nat) ({ cls := "IslandCallModel", name := "yearStep", desc := "()Z" } : Jvm.MethodName)) ∈ lw_all := lw_g (lw_at lw_m7 119 rfl) rfl
theorem q1700 : (Jvm.Cond.privateMethod ({ cls := "IslandCallModel", name := "yearStep", desc := "()Z" } : Jvm.MethodName)) ∈ lw_tbl := lw_at lw_m7 120 rfl
theorem q1701 : (Jvm.Cond.instanceMethod ({ cls := "IslandCallModel", name := "yearStep", desc := "()Z" } : Jvm.MethodName)) ∈ lw_all := lw_g (lw_at lw_m7 121 rfl) rfl
theorem q1702 : (Jvm.Cond.code ({ cls := "IslandCallModel", name := "yearStep", desc := "()Z" } : Jvm.MethodName) prog_15_method_52_code (6 : Nat) (Option.some Jvm.ClassFile.FieldType.boolean)) ∈ lw_all := lw_g (lw_at lw_m7 122 rfl) rfl
theorem q1703 : (Jvm.Cond.methodLink "IslandCallModel" (247 : Nat) ({ cls := "IslandCallModel", name := "yearOrder", desc := "(II)Z" } : Jvm.MethodName)) ∈ lw_all := lw_g (lw_at lw_m7 123 rfl) rfl
theorem q1704 : (Jvm.Cond.privateMethod ({ cls := "IslandCallModel", name := "yearOrder", desc := "(II)Z" } : Jvm.MethodName)) ∈ lw_tbl := lw_at lw_m7 124 rfl
theorem q1705 : (Jvm.Cond.instanceMethod ({ cls := "IslandCallModel", name := "yearOrder", desc := "(II)Z" } : Jvm.MethodName)) ∈ lw_all := lw_g (lw_at lw_m7 125 rfl) rfl
theorem q1706 : (Jvm.Cond.code ({ cls := "IslandCallModel", name := "yearOrder", desc := "(II)Z" } : Jvm.MethodName) prog_15_method_51_code (3 : Nat) (Option.some Jvm.ClassFile.FieldType.boolean)) ∈ lw_all := lw_g (lw_at lw_m7 126 rfl) rfl
theorem q1707 : (Jvm.Cond.methodLink "IslandCallModel" (232 : Nat) ({ cls := "IslandCallModel", name := "omenTo", desc := "(I)Z" } : Jvm.MethodName)) ∈ lw_all := lw_g (lw_at lw_m7 127 rfl) rfl
theorem q1708 : (Jvm.Cond.privateMethod ({ cls := "IslandCallModel", name := "omenTo", desc := "(I)Z" } : Jvm.MethodName)) ∈ lw_tbl := lw_at lw_m7 128 rfl
theorem q1709 : (Jvm.Cond.instanceMethod ({ cls := "IslandCallModel", name := "omenTo", desc := "(I)Z" } : Jvm.MethodName)) ∈ lw_all := lw_g (lw_at lw_m7 129 rfl) rfl
theorem q1710 : (Jvm.Cond.code ({ cls := "IslandCallModel", name := "omenTo", desc := "(I)Z" } : Jvm.MethodName) prog_15_method_49_code (2 : Nat) (Option.some Jvm.ClassFile.FieldType.boolean)) ∈ lw_all := lw_g (lw_at lw_m7 130 rfl) rfl
theorem q1711 : (Jvm.Cond.methodLink "IslandCallModel" (235 : Nat) ({ cls := "IslandCallModel", name := "personTo", desc := "(I)Z" } : Jvm.MethodName)) ∈ lw_all := lw_g (lw_at lw_m7 131 rfl) rfl
theorem q1712 : (Jvm.Cond.privateMethod ({ cls := "IslandCallModel", name := "personTo", desc := "(I)Z" } : Jvm.MethodName)) ∈ lw_tbl := lw_at lw_m7 132 rfl
theorem q1713 : (Jvm.Cond.instanceMethod ({ cls := "IslandCallModel", name := "personTo", desc := "(I)Z" } : Jvm.MethodName)) ∈ lw_all := lw_g (lw_at lw_m7 133 rfl) rfl
theorem q1714 : (Jvm.Cond.code ({ cls := "IslandCallModel", name := "personTo", desc := "(I)Z" } : Jvm.MethodName) prog_15_method_48_code (2 : Nat) (Option.some Jvm.ClassFile.FieldType.boolean)) ∈ lw_all := lw_g (lw_at lw_m7 134 rfl) rfl
theorem q1715 : (Jvm.Cond.methodLink "IslandCallModel" (238 : Nat) ({ cls := "IslandCallModel", name := "test", desc := "(I)Z" } : Jvm.MethodName)) ∈ lw_all := lw_g (lw_at lw_m7 135 rfl) rfl
theorem q1716 : (Jvm.Cond.privateMethod ({ cls := "IslandCallModel", name := "test", desc := "(I)Z" } : Jvm.MethodName)) ∈ lw_tbl := lw_at lw_m7 136 rfl
theorem q1717 : (Jvm.Cond.instanceMethod ({ cls := "IslandCallModel", name := "test", desc := "(I)Z" } : Jvm.MethodName)) ∈ lw_all := lw_g (lw_at lw_m7 137 rfl) rfl
theorem q1718 : (Jvm.Cond.code ({ cls := "IslandCallModel", name := "test", desc := "(I)Z" } : Jvm.MethodName) prog_15_method_50_code (3 : Nat) (Option.some Jvm.ClassFile.FieldType.boolean)) ∈ lw_all := lw_g (lw_at lw_m7 138 rfl) rfl
theorem q1720 : (Jvm.Cond.instanceMethod ({ cls := "IslandCallModel", name := "told", desc := "(I)I" } : Jvm.MethodName)) ∈ lw_all := lw_g (lw_at lw_m7 140 rfl) rfl
theorem q1721 : (Jvm.Cond.selects "IslandCallModel" ({ cls := "IslandCallModel", name := "told", desc := "(I)I" } : Jvm.MethodName) ({ cls := "IslandCallModel", name := "told", desc := "(I)I" } : Jvm.MethodName)) ∈ lw_all := lw_g (lw_at lw_m7 141 rfl) rfl
theorem q1722 : (Jvm.Cond.code ({ cls := "IslandCallModel", name := "told", desc := "(I)I" } : Jvm.MethodName) prog_15_method_70_code (2 : Nat) (Option.some Jvm.ClassFile.FieldType.int)) ∈ lw_all := lw_g (lw_at lw_m7 142 rfl) rfl
theorem q1723 : (Jvm.Cond.methodLink "IslandCallModel" (278 : Nat) ({ cls := "IslandCallModel", name := "aboard", desc := "()I" } : Jvm.MethodName)) ∈ lw_all := lw_g (lw_at lw_m7 143 rfl) rfl
theorem q1724 : (Jvm.Cond.privateMethod ({ cls := "IslandCallModel", name := "aboard", desc := "()I" } : Jvm.MethodName)) ∈ lw_tbl := lw_at lw_m7 144 rfl
theorem q1725 : (Jvm.Cond.instanceMethod ({ cls := "IslandCallModel", name := "aboard", desc := "()I" } : Jvm.MethodName)) ∈ lw_all := lw_g (lw_at lw_m7 145 rfl) rfl
theorem q1726 : (Jvm.Cond.code ({ cls := "IslandCallModel", name := "aboard", desc := "()I" } : Jvm.MethodName) prog_15_method_63_code (1 : Nat) (Option.some Jvm.ClassFile.FieldType.int)) ∈ lw_all := lw_g (lw_at lw_m7 146 rfl) rfl
theorem q1727 : (Jvm.Cond.methodLink "IslandCallModel" (260 : Nat) ({ cls := "IslandCallModel", name := "allPeople", desc := "()I" } : Jvm.MethodName)) ∈ lw_all := lw_g (lw_at lw_m7 147 rfl) rfl
theorem q1728 : (Jvm.Cond.privateMethod ({ cls := "IslandCallModel", name := "allPeople", desc := "()I" } : Jvm.MethodName)) ∈ lw_tbl := lw_at lw_m7 148 rfl
theorem q1729 : (Jvm.Cond.instanceMethod ({ cls := "IslandCallModel", name := "allPeople", desc := "()I" } : Jvm.MethodName)) ∈ lw_all := lw_g (lw_at lw_m7 149 rfl) rfl
theorem q1730 : (Jvm.Cond.code ({ cls := "IslandCallModel", name := "allPeople", desc := "()I" } : Jvm.MethodName) prog_15_method_57_code (1 : Nat) (Option.some Jvm.ClassFile.FieldType.int)) ∈ lw_all := lw_g (lw_at lw_m7 150 rfl) rfl
theorem q1731 : (Jvm.Cond.methodLink "IslandCallModel" (281 : Nat) ({ cls := "IslandCallModel", name := "allSat", desc := "()I" } : Jvm.MethodName)) ∈ lw_all := lw_g (lw_at lw_m7 151 rfl) rfl
theorem q1732 : (Jvm.Cond.privateMethod ({ cls := "IslandCallModel", name := "allSat", desc := "()I" } : Jvm.MethodName)) ∈ lw_tbl := lw_at lw_m7 152 rfl
theorem q1733 : (Jvm.Cond.instanceMethod ({ cls := "IslandCallModel", name := "allSat", desc := "()I" } : Jvm.MethodName)) ∈ lw_all := lw_g (lw_at lw_m7 153 rfl) rfl
theorem q1734 : (Jvm.Cond.code ({ cls := "IslandCallModel", name := "allSat", desc := "()I" } : Jvm.MethodName) prog_15_method_69_code (3 : Nat) (Option.some Jvm.ClassFile.FieldType.int)) ∈ lw_all := lw_g (lw_at lw_m7 154 rfl) rfl
theorem q1735 : (Jvm.Cond.methodLink "IslandCallModel" (266 : Nat) ({ cls := "IslandCallModel", name := "personOf", desc := "(II)I" } : Jvm.MethodName)) ∈ lw_all := lw_g (lw_at lw_m7 155 rfl) rfl
theorem q1736 : (Jvm.Cond.privateMethod ({ cls := "IslandCallModel", name := "personOf", desc := "(II)I" } : Jvm.MethodName)) ∈ lw_tbl := lw_at lw_m7 156 rfl
theorem q1737 : (Jvm.Cond.instanceMethod ({ cls := "IslandCallModel", name := "personOf", desc := "(II)I" } : Jvm.MethodName)) ∈ lw_all := lw_g (lw_at lw_m7 157 rfl) rfl
theorem q1738 : (Jvm.Cond.code ({ cls := "IslandCallModel", name := "personOf", desc := "(II)I" } : Jvm.MethodName) prog_15_method_62_code (3 : Nat) (Option.some Jvm.ClassFile.FieldType.int)) ∈ lw_all := lw_g (lw_at lw_m7 158 rfl) rfl
theorem q1740 : (Jvm.Cond.instanceMethod ({ cls := "IslandCallModel", name := "omen", desc := "(II)I" } : Jvm.MethodName)) ∈ lw_all := lw_g (lw_at lw_m7 160 rfl) rfl
theorem q1741 : (Jvm.Cond.selects "IslandCallModel" ({ cls := "IslandCallModel", name := "omen", desc := "(II)I" } : Jvm.MethodName) ({ cls := "IslandCallModel", name := "omen", desc := "(II)I" } : Jvm.MethodName)) ∈ lw_all := lw_g (lw_at lw_m7 161 rfl) rfl
theorem q1742 : (Jvm.Cond.code ({ cls := "IslandCallModel", name := "omen", desc := "(II)I" } : Jvm.MethodName) prog_15_method_72_code (3 : Nat) (Option.some Jvm.ClassFile.FieldType.int)) ∈ lw_all := lw_g (lw_at lw_m7 162 rfl) rfl
theorem q1743 : (Jvm.Cond.methodLink "IslandCallModel" (284 : Nat) ({ cls := "IslandCallModel", name := "isOmen", desc := "(I)Z" } : Jvm.MethodName)) ∈ lw_all := lw_g (lw_at lw_m7 163 rfl) rfl
theorem q1744 : (Jvm.Cond.privateMethod ({ cls := "IslandCallModel", name := "isOmen", desc := "(I)Z" } : Jvm.MethodName)) ∈ lw_tbl := lw_at lw_m7 164 rfl
theorem q1745 : (Jvm.Cond.instanceMethod ({ cls := "IslandCallModel", name := "isOmen", desc := "(I)Z" } : Jvm.MethodName)) ∈ lw_all := lw_g (lw_at lw_m7 165 rfl) rfl
theorem q1746 : (Jvm.Cond.code ({ cls := "IslandCallModel", name := "isOmen", desc := "(I)Z" } : Jvm.MethodName) prog_15_method_54_code (2 : Nat) (Option.some Jvm.ClassFile.FieldType.boolean)) ∈ lw_all := lw_g (lw_at lw_m7 166 rfl) rfl
theorem q1747 : (Jvm.Cond.methodLink "IslandCallModel" (287 : Nat) ({ cls := "IslandCallModel", name := "excusedFrom", desc := "(I)I" } : Jvm.MethodName)) ∈ lw_all := lw_g (lw_at lw_m7 167 rfl) rfl
theorem q1748 : (Jvm.Cond.privateMethod ({ cls := "IslandCallModel", name := "excusedFrom", desc := "(I)I" } : Jvm.MethodName)) ∈ lw_tbl := lw_at lw_m7 168 rfl
theorem q1749 : (Jvm.Cond.instanceMethod ({ cls := "IslandCallModel", name := "excusedFrom", desc := "(I)I" } : Jvm.MethodName)) ∈ lw_all := lw_g (lw_at lw_m7 169 rfl) rfl
theorem q1750 : (Jvm.Cond.code ({ cls := "IslandCallModel", name := "excusedFrom", desc := "(I)I" } : Jvm.MethodName) prog_15_method_71_code (4 : Nat) (Option.some Jvm.ClassFile.FieldType.int)) ∈ lw_all := lw_g (lw_at lw_m7 170 rfl) rfl
theorem q1751 : (Jvm.Cond.methodLink "IslandCallModel" (263 : Nat) ({ cls := "IslandCallModel", name := "isIn", desc := "(II)Z" } : Jvm.MethodName)) ∈ lw_all := lw_g (lw_at lw_m7 171 rfl) rfl
theorem q1752 : (Jvm.Cond.privateMethod ({ cls := "IslandCallModel", name := "isIn", desc := "(II)Z" } : Jvm.MethodName)) ∈ lw_tbl := lw_at lw_m7 172 rfl
theorem q1753 : (Jvm.Cond.instanceMethod ({ cls := "IslandCallModel", name := "isIn", desc := "(II)Z" } : Jvm.MethodName)) ∈ lw_all := lw_g (lw_at lw_m7 173 rfl) rfl
theorem q1754 : (Jvm.Cond.code ({ cls := "IslandCallModel", name := "isIn", desc := "(II)Z" } : Jvm.MethodName) prog_15_method_60_code (3 : Nat) (Option.some Jvm.ClassFile.FieldType.boolean)) ∈ lw_all := lw_g (lw_at lw_m7 174 rfl) rfl
theorem q1756 : (Jvm.Cond.instanceMethod ({ cls := "IslandCallModel", name := "person", desc := "(II)I" } : Jvm.MethodName)) ∈ lw_all := lw_g (lw_at lw_m7 176 rfl) rfl
theorem q1757 : (Jvm.Cond.selects "IslandCallModel" ({ cls := "IslandCallModel", name := "person", desc := "(II)I" } : Jvm.MethodName) ({ cls := "IslandCallModel", name := "person", desc := "(II)I" } : Jvm.MethodName)) ∈ lw_all := lw_g (lw_at lw_m7 177 rfl) rfl
theorem q1758 : (Jvm.Cond.code ({ cls := "IslandCallModel", name := "person", desc := "(II)I" } : Jvm.MethodName) prog_15_method_73_code (3 : Nat) (Option.some Jvm.ClassFile.FieldType.int)) ∈ lw_all := lw_g (lw_at lw_m7 178 rfl) rfl
theorem q1759 : (Jvm.Cond.methodLink "IslandCallModel" (290 : Nat) ({ cls := "IslandCallModel", name := "isPerson", desc := "(I)Z" } : Jvm.MethodName)) ∈ lw_all := lw_g (lw_at lw_m7 179 rfl) rfl
theorem q1760 : (Jvm.Cond.privateMethod ({ cls := "IslandCallModel", name := "isPerson", desc := "(I)Z" } : Jvm.MethodName)) ∈ lw_tbl := lw_at lw_m7 180 rfl
theorem q1761 : (Jvm.Cond.instanceMethod ({ cls := "IslandCallModel", name := "isPerson", desc := "(I)Z" } : Jvm.MethodName)) ∈ lw_all := lw_g (lw_at lw_m7 181 rfl) rfl
theorem q1762 : (Jvm.Cond.code ({ cls := "IslandCallModel", name := "isPerson", desc := "(I)Z" } : Jvm.MethodName) prog_15_method_55_code (2 : Nat) (Option.some Jvm.ClassFile.FieldType.boolean)) ∈ lw_all := lw_g (lw_at lw_m7 182 rfl) rfl
theorem q1763 : (Jvm.Cond.methodLink "IslandCallModel" (293 : Nat) ({ cls := "IslandCallModel", name := "needOf", desc := "(II)I" } : Jvm.MethodName)) ∈ lw_all := lw_g (lw_at lw_m7 183 rfl) rfl
theorem q1764 : (Jvm.Cond.privateMethod ({ cls := "IslandCallModel", name := "needOf", desc := "(II)I" } : Jvm.MethodName)) ∈ lw_tbl := lw_at lw_m7 184 rfl
theorem q1765 : (Jvm.Cond.instanceMethod ({ cls := "IslandCallModel", name := "needOf", desc := "(II)I" } : Jvm.MethodName)) ∈ lw_all := lw_g (lw_at lw_m7 185 rfl) rfl
theorem q1766 : (Jvm.Cond.code ({ cls := "IslandCallModel", name := "needOf", desc := "(II)I" } : Jvm.MethodName) prog_15_method_68_code (3 : Nat) (Option.some Jvm.ClassFile.FieldType.int)) ∈ lw_all := lw_g (lw_at lw_m7 186 rfl) rfl
theorem q1767 : (Jvm.Cond.methodLink "IslandCallModel" (272 : Nat) ({ cls := "IslandCallModel", name := "pullOn", desc := "(II)I" } : Jvm.MethodName)) ∈ lw_all := lw_g (lw_at lw_m7 187 rfl) rfl
theorem q1768 : (Jvm.Cond.privateMethod ({ cls := "IslandCallModel", name := "pullOn", desc := "(II)I" } : Jvm.MethodName)) ∈ lw_tbl := lw_at lw_m7 188 rfl
theorem q1769 : (Jvm.Cond.instanceMethod ({ cls := "IslandCallModel", name := "pullOn", desc := "(II)I" } : Jvm.MethodName)) ∈ lw_all := lw_g (lw_at lw_m7 189 rfl) rfl
theorem q1770 : (Jvm.Cond.code ({ cls := "IslandCallModel", name := "pullOn", desc := "(II)I" } : Jvm.MethodName) prog_15_method_67_code (5 : Nat) (Option.some Jvm.ClassFile.FieldType.int)) ∈ lw_all := lw_g (lw_at lw_m7 190 rfl) rfl
theorem q1771 : (Jvm.Cond.methodLink "IslandCallModel" (275 : Nat) ({ cls := "java/lang/Math", name := "max", desc := "(II)I" } : Jvm.MethodName)) ∈ lw_all := lw_g (lw_at lw_m7 191 rfl) rfl
theorem q1772 : (Jvm.Cond.methodLink "IslandCallModel" (296 : Nat) ({ cls := "IslandCallModel", name := "isOut", desc := "(I)Z" } : Jvm.MethodName)) ∈ lw_all := lw_g (lw_at lw_m7 192 rfl) rfl
theorem q1773 : (Jvm.Cond.privateMethod ({ cls := "IslandCallModel", name := "isOut", desc := "(I)Z" } : Jvm.MethodName)) ∈ lw_tbl := lw_at lw_m7 193 rfl
theorem q1774 : (Jvm.Cond.instanceMethod ({ cls := "IslandCallModel", name := "isOut", desc := "(I)Z" } : Jvm.MethodName)) ∈ lw_all := lw_g (lw_at lw_m7 194 rfl) rfl
theorem q1775 : (Jvm.Cond.code ({ cls := "IslandCallModel", name := "isOut", desc := "(I)Z" } : Jvm.MethodName) prog_15_method_64_code (2 : Nat) (Option.some Jvm.ClassFile.FieldType.boolean)) ∈ lw_all := lw_g (lw_at lw_m7 195 rfl) rfl
theorem q1776 : (Jvm.Cond.methodLink "IslandCallModel" (269 : Nat) ({ cls := "IslandCallModel", name := "seenBy", desc := "(I)I" } : Jvm.MethodName)) ∈ lw_all := lw_g (lw_at lw_m7 196 rfl) rfl
theorem q1777 : (Jvm.Cond.privateMethod ({ cls := "IslandCallModel", name := "seenBy", desc := "(I)I" } : Jvm.MethodName)) ∈ lw_tbl := lw_at lw_m7 197 rfl
theorem q1778 : (Jvm.Cond.instanceMethod ({ cls := "IslandCallModel", name := "seenBy", desc := "(I)I" } : Jvm.MethodName)) ∈ lw_all := lw_g (lw_at lw_m7 198 rfl) rfl
theorem q1779 : (Jvm.Cond.code ({ cls := "IslandCallModel", name := "seenBy", desc := "(I)I" } : Jvm.MethodName) prog_15_method_65_code (2 : Nat) (Option.some Jvm.ClassFile.FieldType.int)) ∈ lw_all := lw_g (lw_at lw_m7 199 rfl) rfl
theorem q1780 : (Jvm.Cond.methodLink "IslandCallModel" (299 : Nat) ({ cls := "IslandCallModel", name := "whoSee", desc := "(I)I" } : Jvm.MethodName)) ∈ lw_all := lw_g (lw_at lw_m7 200 rfl) rfl
theorem q1781 : (Jvm.Cond.privateMethod ({ cls := "IslandCallModel", name := "whoSee", desc := "(I)I" } : Jvm.MethodName)) ∈ lw_tbl := lw_at lw_m7 201 rfl
theorem q1782 : (Jvm.Cond.instanceMethod ({ cls := "IslandCallModel", name := "whoSee", desc := "(I)I" } : Jvm.MethodName)) ∈ lw_all := lw_g (lw_at lw_m7 202 rfl) rfl
theorem q1783 : (Jvm.Cond.code ({ cls := "IslandCallModel", name := "whoSee", desc := "(I)I" } : Jvm.MethodName) prog_15_method_66_code (4 : Nat) (Option.some Jvm.ClassFile.FieldType.int)) ∈ lw_all := lw_g (lw_at lw_m7 203 rfl) rfl
theorem q1785 : (Jvm.Cond.instanceMethod ({ cls := "IslandCallModel", name := "call", desc := "()I" } : Jvm.MethodName)) ∈ lw_all := lw_g (lw_at lw_m7 205 rfl) rfl
theorem q1786 : (Jvm.Cond.selects "IslandCallModel" ({ cls := "IslandCallModel", name := "call", desc := "()I" } : Jvm.MethodName) ({ cls := "IslandCallModel", name := "call", desc := "()I" } : Jvm.MethodName)) ∈ lw_all := lw_g (lw_at lw_m7 206 rfl) rfl
theorem q1787 : (Jvm.Cond.code ({ cls := "IslandCallModel", name := "call", desc := "()I" } : Jvm.MethodName) prog_15_method_78_code (1 : Nat) (Option.some Jvm.ClassFile.FieldType.int)) ∈ lw_all := lw_g (lw_at lw_m7 207 rfl) rfl
theorem q1788 : (Jvm.Cond.methodLink "IslandCallModel" (315 : Nat) ({ cls := "IslandCallModel", name := "calling", desc := "()I" } : Jvm.MethodName)) ∈ lw_all := lw_g (lw_at lw_m7 208 rfl) rfl
theorem q1789 : (Jvm.Cond.privateMethod ({ cls := "IslandCallModel", name := "calling", desc := "()I" } : Jvm.MethodName)) ∈ lw_tbl := lw_at lw_m7 209 rfl
theorem q1790 : (Jvm.Cond.instanceMethod ({ cls := "IslandCallModel", name := "calling", desc := "()I" } : Jvm.MethodName)) ∈ lw_all := lw_g (lw_at lw_m7 210 rfl) rfl
theorem q1791 : (Jvm.Cond.code ({ cls := "IslandCallModel", name := "calling", desc := "()I" } : Jvm.MethodName) prog_15_method_77_code (3 : Nat) (Option.some Jvm.ClassFile.FieldType.int)) ∈ lw_all := lw_g (lw_at lw_m7 211 rfl) rfl
theorem q1792 : (Jvm.Cond.methodLink "IslandCallModel" (312 : Nat) ({ cls := "IslandCallModel", name := "outOf", desc := "(II)I" } : Jvm.MethodName)) ∈ lw_all := lw_g (lw_at lw_m7 212 rfl) rfl
theorem q1793 : (Jvm.Cond.privateMethod ({ cls := "IslandCallModel", name := "outOf", desc := "(II)I" } : Jvm.MethodName)) ∈ lw_tbl := lw_at lw_m7 213 rfl
theorem q1794 : (Jvm.Cond.instanceMethod ({ cls := "IslandCallModel", name := "outOf", desc := "(II)I" } : Jvm.MethodName)) ∈ lw_all := lw_g (lw_at lw_m7 214 rfl) rfl
theorem q1795 : (Jvm.Cond.code ({ cls := "IslandCallModel", name := "outOf", desc := "(II)I" } : Jvm.MethodName) prog_15_method_75_code (3 : Nat) (Option.some Jvm.ClassFile.FieldType.int)) ∈ lw_all := lw_g (lw_at lw_m7 215 rfl) rfl
theorem q1796 : (Jvm.Cond.methodLink "IslandCallModel" (308 : Nat) ({ cls := "IslandCallModel", name := "risingOf", desc := "(IIII)I" } : Jvm.MethodName)) ∈ lw_all := lw_g (lw_at lw_m7 216 rfl) rfl
theorem q1797 : (Jvm.Cond.privateMethod ({ cls := "IslandCallModel", name := "risingOf", desc := "(IIII)I" } : Jvm.MethodName)) ∈ lw_tbl := lw_at lw_m7 217 rfl
theorem q1798 : (Jvm.Cond.instanceMethod ({ cls := "IslandCallModel", name := "risingOf", desc := "(IIII)I" } : Jvm.MethodName)) ∈ lw_all := lw_g (lw_at lw_m7 218 rfl) rfl
theorem q1799 : (Jvm.Cond.code ({ cls := "IslandCallModel", name := "risingOf", desc := "(IIII)I" } : Jvm.MethodName) prog_15_method_74_code (9 : Nat) (Option.some Jvm.ClassFile.FieldType.int)) ∈ lw_all := lw_g (lw_at lw_m7 219 rfl) rfl
theorem q1800 : (Jvm.Cond.methodLink "IslandCallModel" (305 : Nat) ({ cls := "IslandCallModel", name := "bits", desc := "(I)I" } : Jvm.MethodName)) ∈ lw_all := lw_g (lw_at lw_m7 220 rfl) rfl
theorem q1801 : (Jvm.Cond.static ({ cls := "IslandCallModel", name := "bits", desc := "(I)I" } : Jvm.MethodName)) ∈ lw_all := lw_g (lw_at lw_m7 221 rfl) rfl
theorem q1802 : (Jvm.Cond.code ({ cls := "IslandCallModel", name := "bits", desc := "(I)I" } : Jvm.MethodName) prog_15_method_61_code (3 : Nat) (Option.some Jvm.ClassFile.FieldType.int)) ∈ lw_all := lw_g (lw_at lw_m7 222 rfl) rfl
theorem q1804 : (Jvm.Cond.instanceMethod ({ cls := "IslandCallModel", name := "show", desc := "(IZ)Z" } : Jvm.MethodName)) ∈ lw_all := lw_g (lw_at lw_m7 224 rfl) rfl
theorem q1805 : (Jvm.Cond.selects "IslandCallModel" ({ cls := "IslandCallModel", name := "show", desc := "(IZ)Z" } : Jvm.MethodName) ({ cls := "IslandCallModel", name := "show", desc := "(IZ)Z" } : Jvm.MethodName)) ∈ lw_all := lw_g (lw_at lw_m7 225 rfl) rfl
theorem q1806 : (Jvm.Cond.code ({ cls := "IslandCallModel", name := "show", desc := "(IZ)Z" } : Jvm.MethodName) prog_15_method_80_code (3 : Nat) (Option.some Jvm.ClassFile.FieldType.boolean)) ∈ lw_all := lw_g (lw_at lw_m7 226 rfl) rfl
theorem q1807 : (Jvm.Cond.methodLink "IslandCallModel" (318 : Nat) ({ cls := "IslandCallModel", name := "shows", desc := "(II)Z" } : Jvm.MethodName)) ∈ lw_all := lw_g (lw_at lw_m7 227 rfl) rfl
theorem q1808 : (Jvm.Cond.privateMethod ({ cls := "IslandCallModel", name := "shows", desc := "(II)Z" } : Jvm.MethodName)) ∈ lw_tbl := lw_at lw_m7 228 rfl
theorem q1809 : (Jvm.Cond.instanceMethod ({ cls := "IslandCallModel", name := "shows", desc := "(II)Z" } : Jvm.MethodName)) ∈ lw_all := lw_g (lw_at lw_m7 229 rfl) rfl
theorem q1810 : (Jvm.Cond.code ({ cls := "IslandCallModel", name := "shows", desc := "(II)Z" } : Jvm.MethodName) prog_15_method_79_code (3 : Nat) (Option.some Jvm.ClassFile.FieldType.boolean)) ∈ lw_all := lw_g (lw_at lw_m7 230 rfl) rfl
theorem q1812 : (Jvm.Cond.instanceMethod ({ cls := "IslandCallModel", name := "board", desc := "(I)I" } : Jvm.MethodName)) ∈ lw_all := lw_g (lw_at lw_m7 232 rfl) rfl
theorem q1813 : (Jvm.Cond.selects "IslandCallModel" ({ cls := "IslandCallModel", name := "board", desc := "(I)I" } : Jvm.MethodName) ({ cls := "IslandCallModel", name := "board", desc := "(I)I" } : Jvm.MethodName)) ∈ lw_all := lw_g (lw_at lw_m7 233 rfl) rfl
theorem q1814 : (Jvm.Cond.code ({ cls := "IslandCallModel", name := "board", desc := "(I)I" } : Jvm.MethodName) prog_15_method_82_code (2 : Nat) (Option.some Jvm.ClassFile.FieldType.int)) ∈ lw_all := lw_g (lw_at lw_m7 234 rfl) rfl
theorem q1815 : (Jvm.Cond.methodLink "IslandCallModel" (321 : Nat) ({ cls := "IslandCallModel", name := "boards", desc := "(I)Z" } : Jvm.MethodName)) ∈ lw_all := lw_g (lw_at lw_m7 235 rfl) rfl
theorem q1816 : (Jvm.Cond.privateMethod ({ cls := "IslandCallModel", name := "boards", desc := "(I)Z" } : Jvm.MethodName)) ∈ lw_tbl := lw_at lw_m7 236 rfl
theorem q1817 : (Jvm.Cond.instanceMethod ({ cls := "IslandCallModel", name := "boards", desc := "(I)Z" } : Jvm.MethodName)) ∈ lw_all := lw_g (lw_at lw_m7 237 rfl) rfl
theorem q1818 : (Jvm.Cond.code ({ cls := "IslandCallModel", name := "boards", desc := "(I)Z" } : Jvm.MethodName) prog_15_method_81_code (3 : Nat) (Option.some Jvm.ClassFile.FieldType.boolean)) ∈ lw_all := lw_g (lw_at lw_m7 238 rfl) rfl
theorem q1820 : (Jvm.Cond.instanceMethod ({ cls := "IslandCallModel", name := "sway", desc := "(II)Z" } : Jvm.MethodName)) ∈ lw_all := lw_g (lw_at lw_m8 0 rfl) rfl
theorem q1821 : (Jvm.Cond.selects "IslandCallModel" ({ cls := "IslandCallModel", name := "sway", desc := "(II)Z" } : Jvm.MethodName) ({ cls := "IslandCallModel", name := "sway", desc := "(II)Z" } : Jvm.MethodName)) ∈ lw_all := lw_g (lw_at lw_m8 1 rfl) rfl
theorem q1822 : (Jvm.Cond.code ({ cls := "IslandCallModel", name := "sway", desc := "(II)Z" } : Jvm.MethodName) prog_15_method_84_code (3 : Nat) (Option.some Jvm.ClassFile.FieldType.boolean)) ∈ lw_all := lw_g (lw_at lw_m8 2 rfl) rfl
theorem q1823 : (Jvm.Cond.constantLong "IslandCallModel" (324 : Nat) (9 : Int64)) ∈ lw_all := lw_g (lw_at lw_m8 3 rfl) rfl
theorem q1824 : (Jvm.Cond.methodLink "IslandCallModel" (256 : Nat) ({ cls := "IslandCallModel", name := "isFrom", desc := "(JJJ)Z" } : Jvm.MethodName)) ∈ lw_all := lw_g (lw_at lw_m8 4 rfl) rfl
theorem q1825 : (Jvm.Cond.static ({ cls := "IslandCallModel", name := "isFrom", desc := "(JJJ)Z" } : Jvm.MethodName)) ∈ lw_all := lw_g (lw_at lw_m8 5 rfl) rfl
theorem q1826 : (Jvm.Cond.code ({ cls := "IslandCallModel", name := "isFrom", desc := "(JJJ)Z" } : Jvm.MethodName) prog_15_method_18_code (6 : Nat) (Option.some Jvm.ClassFile.FieldType.boolean)) ∈ lw_all := lw_g (lw_at lw_m8 6 rfl) rfl
theorem q1827 : (Jvm.Cond.methodLink "IslandCallModel" (326 : Nat) ({ cls := "IslandCallModel", name := "sways", desc := "(II)Z" } : Jvm.MethodName)) ∈ lw_all := lw_g (lw_at lw_m8 7 rfl) rfl
theorem q1828 : (Jvm.Cond.privateMethod ({ cls := "IslandCallModel", name := "sways", desc := "(II)Z" } : Jvm.MethodName)) ∈ lw_tbl := lw_at lw_m8 8 rfl
theorem q1829 : (Jvm.Cond.instanceMethod ({ cls := "IslandCallModel", name := "sways", desc := "(II)Z" } : Jvm.MethodName)) ∈ lw_all := lw_g (lw_at lw_m8 9 rfl) rfl
theorem q1830 : (Jvm.Cond.code ({ cls := "IslandCallModel", name := "sways", desc := "(II)Z" } : Jvm.MethodName) prog_15_method_83_code (4 : Nat) (Option.some Jvm.ClassFile.FieldType.boolean)) ∈ lw_all := lw_g (lw_at lw_m8 10 rfl) rfl
theorem q1832 : (Jvm.Cond.instanceMethod ({ cls := "IslandCallModel", name := "excuse", desc := "(IIZ)Z" } : Jvm.MethodName)) ∈ lw_all := lw_g (lw_at lw_m8 12 rfl) rfl
theorem q1833 : (Jvm.Cond.selects "IslandCallModel" ({ cls := "IslandCallModel", name := "excuse", desc := "(IIZ)Z" } : Jvm.MethodName) ({ cls := "IslandCallModel", name := "excuse", desc := "(IIZ)Z" } : Jvm.MethodName)) ∈ lw_all := lw_g (lw_at lw_m8 13 rfl) rfl
theorem q1834 : (Jvm.Cond.code ({ cls := "IslandCallModel", name := "excuse", desc := "(IIZ)Z" } : Jvm.MethodName) prog_15_method_85_code (4 : Nat) (Option.some Jvm.ClassFile.FieldType.boolean)) ∈ lw_all := lw_g (lw_at lw_m8 14 rfl) rfl
theorem q1836 : (Jvm.Cond.instanceMethod ({ cls := "IslandCallModel", name := "see", desc := "(IIZ)Z" } : Jvm.MethodName)) ∈ lw_all := lw_g (lw_at lw_m8 16 rfl) rfl
theorem q1837 : (Jvm.Cond.selects "IslandCallModel" ({ cls := "IslandCallModel", name := "see", desc := "(IIZ)Z" } : Jvm.MethodName) ({ cls := "IslandCallModel", name := "see", desc := "(IIZ)Z" } : Jvm.MethodName)) ∈ lw_all := lw_g (lw_at lw_m8 17 rfl) rfl
theorem q1838 : (Jvm.Cond.code ({ cls := "IslandCallModel", name := "see", desc := "(IIZ)Z" } : Jvm.MethodName) prog_15_method_86_code (4 : Nat) (Option.some Jvm.ClassFile.FieldType.boolean)) ∈ lw_all := lw_g (lw_at lw_m8 18 rfl) rfl
theorem q1840 : (Jvm.Cond.instanceMethod ({ cls := "IslandCallModel", name := "paint", desc := "(II)Z" } : Jvm.MethodName)) ∈ lw_all := lw_g (lw_at lw_m8 20 rfl) rfl
theorem q1841 : (Jvm.Cond.selects "IslandCallModel" ({ cls := "IslandCallModel", name := "paint", desc := "(II)Z" } : Jvm.MethodName) ({ cls := "IslandCallModel", name := "paint", desc := "(II)Z" } : Jvm.MethodName)) ∈ lw_all := lw_g (lw_at lw_m8 21 rfl) rfl
theorem q1842 : (Jvm.Cond.code ({ cls := "IslandCallModel", name := "paint", desc := "(II)Z" } : Jvm.MethodName) prog_15_method_87_code (3 : Nat) (Option.some Jvm.ClassFile.FieldType.boolean)) ∈ lw_all := lw_g (lw_at lw_m8 22 rfl) rfl
theorem q1843 : (Jvm.Cond.constantLong "IslandCallModel" (329 : Nat) (5 : Int64)) ∈ lw_all := lw_g (lw_at lw_m8 23 rfl) rfl
theorem q1845 : (Jvm.Cond.instanceMethod ({ cls := "IslandCallModel", name := "come", desc := "(I)I" } : Jvm.MethodName)) ∈ lw_all := lw_g (lw_at lw_m8 25 rfl) rfl
theorem q1846 : (Jvm.Cond.selects "IslandCallModel" ({ cls := "IslandCallModel", name := "come", desc := "(I)I" } : Jvm.MethodName) ({ cls := "IslandCallModel", name := "come", desc := "(I)I" } : Jvm.MethodName)) ∈ lw_all := lw_g (lw_at lw_m8 26 rfl) rfl
theorem q1847 : (Jvm.Cond.code ({ cls := "IslandCallModel", name := "come", desc := "(I)I" } : Jvm.MethodName) prog_15_method_88_code (4 : Nat) (Option.some Jvm.ClassFile.FieldType.int)) ∈ lw_all := lw_g (lw_at lw_m8 27 rfl) rfl
theorem q1849 : (Jvm.Cond.instanceMethod ({ cls := "IslandCallModel", name := "rule", desc := "(II)Z" } : Jvm.MethodName)) ∈ lw_all := lw_g (lw_at lw_m8 29 rfl) rfl
theorem q1850 : (Jvm.Cond.selects "IslandCallModel" ({ cls := "IslandCallModel", name := "rule", desc := "(II)Z" } : Jvm.MethodName) ({ cls := "IslandCallModel", name := "rule", desc := "(II)Z" } : Jvm.MethodName)) ∈ lw_all := lw_g (lw_at lw_m8 30 rfl) rfl
theorem q1851 : (Jvm.Cond.code ({ cls := "IslandCallModel", name := "rule", desc := "(II)Z" } : Jvm.MethodName) prog_15_method_89_code (3 : Nat) (Option.some Jvm.ClassFile.FieldType.boolean)) ∈ lw_all := lw_g (lw_at lw_m8 31 rfl) rfl
theorem q1852 : (Jvm.Cond.constantLong "IslandCallModel" (331 : Nat) (3 : Int64)) ∈ lw_all := lw_g (lw_at lw_m8 32 rfl) rfl
theorem q1853 : (Jvm.Cond.constantLong "IslandCallModel" (333 : Nat) (16 : Int64)) ∈ lw_all := lw_g (lw_at lw_m8 33 rfl) rfl
theorem q1855 : (Jvm.Cond.instanceMethod ({ cls := "IslandCallModel", name := "need", desc := "(II)I" } : Jvm.MethodName)) ∈ lw_all := lw_g (lw_at lw_m8 35 rfl) rfl
theorem q1856 : (Jvm.Cond.selects "IslandCallModel" ({ cls := "IslandCallModel", name := "need", desc := "(II)I" } : Jvm.MethodName) ({ cls := "IslandCallModel", name := "need", desc := "(II)I" } : Jvm.MethodName)) ∈ lw_all := lw_g (lw_at lw_m8 36 rfl) rfl
theorem q1857 : (Jvm.Cond.code ({ cls := "IslandCallModel", name := "need", desc := "(II)I" } : Jvm.MethodName) prog_15_method_90_code (3 : Nat) (Option.some Jvm.ClassFile.FieldType.int)) ∈ lw_all := lw_g (lw_at lw_m8 37 rfl) rfl
theorem q1858 : (Jvm.Cond.methodLink "IslandCallModel" (335 : Nat) ({ cls := "IslandCallModel", name := "areOmens", desc := "(J)Z" } : Jvm.MethodName)) ∈ lw_all := lw_g (lw_at lw_m8 38 rfl) rfl
theorem q1859 : (Jvm.Cond.privateMethod ({ cls := "IslandCallModel", name := "areOmens", desc := "(J)Z" } : Jvm.MethodName)) ∈ lw_tbl := lw_at lw_m8 39 rfl
theorem q1860 : (Jvm.Cond.instanceMethod ({ cls := "IslandCallModel", name := "areOmens", desc := "(J)Z" } : Jvm.MethodName)) ∈ lw_all := lw_g (lw_at lw_m8 40 rfl) rfl
theorem q1861 : (Jvm.Cond.code ({ cls := "IslandCallModel", name := "areOmens", desc := "(J)Z" } : Jvm.MethodName) prog_15_method_58_code (3 : Nat) (Option.some Jvm.ClassFile.FieldType.boolean)) ∈ lw_all := lw_g (lw_at lw_m8 41 rfl) rfl
theorem q1862 : (Jvm.Cond.methodLink "IslandCallModel" (253 : Nat) ({ cls := "IslandCallModel", name := "allOmens", desc := "()I" } : Jvm.MethodName)) ∈ lw_all := lw_g (lw_at lw_m8 42 rfl) rfl
theorem q1863 : (Jvm.Cond.privateMethod ({ cls := "IslandCallModel", name := "allOmens", desc := "()I" } : Jvm.MethodName)) ∈ lw_tbl := lw_at lw_m8 43 rfl
theorem q1864 : (Jvm.Cond.instanceMethod ({ cls := "IslandCallModel", name := "allOmens", desc := "()I" } : Jvm.MethodName)) ∈ lw_all := lw_g (lw_at lw_m8 44 rfl) rfl
theorem q1865 : (Jvm.Cond.code ({ cls := "IslandCallModel", name := "allOmens", desc := "()I" } : Jvm.MethodName) prog_15_method_56_code (1 : Nat) (Option.some Jvm.ClassFile.FieldType.int)) ∈ lw_all := lw_g (lw_at lw_m8 45 rfl) rfl
theorem q1867 : (Jvm.Cond.instanceMethod ({ cls := "IslandCallModel", name := "roundOf", desc := "(II)I" } : Jvm.MethodName)) ∈ lw_all := lw_g (lw_at lw_m8 47 rfl) rfl
theorem q1868 : (Jvm.Cond.selects "IslandCallModel" ({ cls := "IslandCallModel", name := "roundOf", desc := "(II)I" } : Jvm.MethodName) ({ cls := "IslandCallModel", name := "roundOf", desc := "(II)I" } : Jvm.MethodName)) ∈ lw_all := lw_g (lw_at lw_m8 48 rfl) rfl
theorem q1869 : (Jvm.Cond.code ({ cls := "IslandCallModel", name := "roundOf", desc := "(II)I" } : Jvm.MethodName) prog_15_method_91_code (3 : Nat) (Option.some Jvm.ClassFile.FieldType.int)) ∈ lw_all := lw_g (lw_at lw_m8 49 rfl) rfl
theorem q1870 : (Jvm.Cond.methodLink "IslandCallModel" (339 : Nat) ({ cls := "IslandCallModel", name := "restOf", desc := "(I)I" } : Jvm.MethodName)) ∈ lw_all := lw_g (lw_at lw_m8 50 rfl) rfl
theorem q1871 : (Jvm.Cond.privateMethod ({ cls := "IslandCallModel", name := "restOf", desc := "(I)I" } : Jvm.MethodName)) ∈ lw_tbl := lw_at lw_m8 51 rfl
theorem q1872 : (Jvm.Cond.instanceMethod ({ cls := "IslandCallModel", name := "restOf", desc := "(I)I" } : Jvm.MethodName)) ∈ lw_all := lw_g (lw_at lw_m8 52 rfl) rfl
theorem q1873 : (Jvm.Cond.code ({ cls := "IslandCallModel", name := "restOf", desc := "(I)I" } : Jvm.MethodName) prog_15_method_76_code (2 : Nat) (Option.some Jvm.ClassFile.FieldType.int)) ∈ lw_all := lw_g (lw_at lw_m8 53 rfl) rfl
theorem q1875 : (Jvm.Cond.instanceMethod ({ cls := "IslandCallModel", name := "outBy", desc := "(I)I" } : Jvm.MethodName)) ∈ lw_all := lw_g (lw_at lw_m8 55 rfl) rfl
theorem q1876 : (Jvm.Cond.selects "IslandCallModel" ({ cls := "IslandCallModel", name := "outBy", desc := "(I)I" } : Jvm.MethodName) ({ cls := "IslandCallModel", name := "outBy", desc := "(I)I" } : Jvm.MethodName)) ∈ lw_all := lw_g (lw_at lw_m8 56 rfl) rfl
theorem q1877 : (Jvm.Cond.code ({ cls := "IslandCallModel", name := "outBy", desc := "(I)I" } : Jvm.MethodName) prog_15_method_92_code (2 : Nat) (Option.some Jvm.ClassFile.FieldType.int)) ∈ lw_all := lw_g (lw_at lw_m8 57 rfl) rfl
theorem q1879 : (Jvm.Cond.instanceMethod ({ cls := "IslandCallModel", name := "restBy", desc := "(I)I" } : Jvm.MethodName)) ∈ lw_all := lw_g (lw_at lw_m8 59 rfl) rfl
theorem q1880 : (Jvm.Cond.selects "IslandCallModel" ({ cls := "IslandCallModel", name := "restBy", desc := "(I)I" } : Jvm.MethodName) ({ cls := "IslandCallModel", name := "restBy", desc := "(I)I" } : Jvm.MethodName)) ∈ lw_all := lw_g (lw_at lw_m8 60 rfl) rfl
theorem q1881 : (Jvm.Cond.code ({ cls := "IslandCallModel", name := "restBy", desc := "(I)I" } : Jvm.MethodName) prog_15_method_93_code (2 : Nat) (Option.some Jvm.ClassFile.FieldType.int)) ∈ lw_all := lw_g (lw_at lw_m8 61 rfl) rfl
theorem q1883 : (Jvm.Cond.instanceMethod ({ cls := "IslandCallModel", name := "rounds", desc := "(I)I" } : Jvm.MethodName)) ∈ lw_all := lw_g (lw_at lw_m8 63 rfl) rfl
theorem q1884 : (Jvm.Cond.selects "IslandCallModel" ({ cls := "IslandCallModel", name := "rounds", desc := "(I)I" } : Jvm.MethodName) ({ cls := "IslandCallModel", name := "rounds", desc := "(I)I" } : Jvm.MethodName)) ∈ lw_all := lw_g (lw_at lw_m8 64 rfl) rfl
theorem q1885 : (Jvm.Cond.code ({ cls := "IslandCallModel", name := "rounds", desc := "(I)I" } : Jvm.MethodName) prog_15_method_94_code (2 : Nat) (Option.some Jvm.ClassFile.FieldType.int)) ∈ lw_all := lw_g (lw_at lw_m8 65 rfl) rfl
theorem q1887 : (Jvm.Cond.instanceMethod ({ cls := "IslandCallModel", name := "atRest", desc := "(II)I" } : Jvm.MethodName)) ∈ lw_all := lw_g (lw_at lw_m8 67 rfl) rfl
theorem q1888 : (Jvm.Cond.selects "IslandCallModel" ({ cls := "IslandCallModel", name := "atRest", desc := "(II)I" } : Jvm.MethodName) ({ cls := "IslandCallModel", name := "atRest", desc := "(II)I" } : Jvm.MethodName)) ∈ lw_all := lw_g (lw_at lw_m8 68 rfl) rfl
theorem q1889 : (Jvm.Cond.code ({ cls := "IslandCallModel", name := "atRest", desc := "(II)I" } : Jvm.MethodName) prog_15_method_96_code (3 : Nat) (Option.some Jvm.ClassFile.FieldType.int)) ∈ lw_all := lw_g (lw_at lw_m8 69 rfl) rfl
theorem q1890 : (Jvm.Cond.methodLink "IslandCallModel" (342 : Nat) ({ cls := "IslandCallModel", name := "arePeople", desc := "(J)Z" } : Jvm.MethodName)) ∈ lw_all := lw_g (lw_at lw_m8 70 rfl) rfl
theorem q1891 : (Jvm.Cond.privateMethod ({ cls := "IslandCallModel", name := "arePeople", desc := "(J)Z" } : Jvm.MethodName)) ∈ lw_tbl := lw_at lw_m8 71 rfl
theorem q1892 : (Jvm.Cond.instanceMethod ({ cls := "IslandCallModel", name := "arePeople", desc := "(J)Z" } : Jvm.MethodName)) ∈ lw_all := lw_g (lw_at lw_m8 72 rfl) rfl
theorem q1893 : (Jvm.Cond.code ({ cls := "IslandCallModel", name := "arePeople", desc := "(J)Z" } : Jvm.MethodName) prog_15_method_59_code (3 : Nat) (Option.some Jvm.ClassFile.FieldType.boolean)) ∈ lw_all := lw_g (lw_at lw_m8 73 rfl) rfl
theorem q1894 : (Jvm.Cond.methodLink "IslandCallModel" (345 : Nat) ({ cls := "IslandCallModel", name := "isRest", desc := "(II)Z" } : Jvm.MethodName)) ∈ lw_all := lw_g (lw_at lw_m8 74 rfl) rfl
theorem q1895 : (Jvm.Cond.privateMethod ({ cls := "IslandCallModel", name := "isRest", desc := "(II)Z" } : Jvm.MethodName)) ∈ lw_tbl := lw_at lw_m8 75 rfl
theorem q1896 : (Jvm.Cond.instanceMethod ({ cls := "IslandCallModel", name := "isRest", desc := "(II)Z" } : Jvm.MethodName)) ∈ lw_all := lw_g (lw_at lw_m8 76 rfl) rfl
theorem q1897 : (Jvm.Cond.code ({ cls := "IslandCallModel", name := "isRest", desc := "(II)Z" } : Jvm.MethodName) prog_15_method_95_code (4 : Nat) (Option.some Jvm.ClassFile.FieldType.boolean)) ∈ lw_all := lw_g (lw_at lw_m8 77 rfl) rfl
theorem q1899 : (Jvm.Cond.instanceMethod ({ cls := "IslandCallModel", name := "rests", desc := "(I)I" } : Jvm.MethodName)) ∈ lw_all := lw_g (lw_at lw_m8 79 rfl) rfl
theorem q1900 : (Jvm.Cond.selects "IslandCallModel" ({ cls := "IslandCallModel", name := "rests", desc := "(I)I" } : Jvm.MethodName) ({ cls := "IslandCallModel", name := "rests", desc := "(I)I" } : Jvm.MethodName)) ∈ lw_all := lw_g (lw_at lw_m8 80 rfl) rfl
theorem q1901 : (Jvm.Cond.code ({ cls := "IslandCallModel", name := "rests", desc := "(I)I" } : Jvm.MethodName) prog_15_method_97_code (4 : Nat) (Option.some Jvm.ClassFile.FieldType.int)) ∈ lw_all := lw_g (lw_at lw_m8 81 rfl) rfl
theorem q1903 : (Jvm.Cond.instanceMethod ({ cls := "IslandCallModel", name := "greatest", desc := "(I)I" } : Jvm.MethodName)) ∈ lw_all := lw_g (lw_at lw_m8 83 rfl) rfl
theorem q1904 : (Jvm.Cond.selects "IslandCallModel" ({ cls := "IslandCallModel", name := "greatest", desc := "(I)I" } : Jvm.MethodName) ({ cls := "IslandCallModel", name := "greatest", desc := "(I)I" } : Jvm.MethodName)) ∈ lw_all := lw_g (lw_at lw_m8 84 rfl) rfl
theorem q1905 : (Jvm.Cond.code ({ cls := "IslandCallModel", name := "greatest", desc := "(I)I" } : Jvm.MethodName) prog_15_method_98_code (6 : Nat) (Option.some Jvm.ClassFile.FieldType.int)) ∈ lw_all := lw_g (lw_at lw_m8 85 rfl) rfl
theorem q1907 : (Jvm.Cond.instanceMethod ({ cls := "IslandCallModel", name := "seeds", desc := "(I)I" } : Jvm.MethodName)) ∈ lw_all := lw_g (lw_at lw_m8 87 rfl) rfl
theorem q1908 : (Jvm.Cond.selects "IslandCallModel" ({ cls := "IslandCallModel", name := "seeds", desc := "(I)I" } : Jvm.MethodName) ({ cls := "IslandCallModel", name := "seeds", desc := "(I)I" } : Jvm.MethodName)) ∈ lw_all := lw_g (lw_at lw_m8 88 rfl) rfl
theorem q1909 : (Jvm.Cond.code ({ cls := "IslandCallModel", name := "seeds", desc := "(I)I" } : Jvm.MethodName) prog_15_method_100_code (2 : Nat) (Option.some Jvm.ClassFile.FieldType.int)) ∈ lw_all := lw_g (lw_at lw_m8 89 rfl) rfl
theorem q1910 : (Jvm.Cond.methodLink "IslandCallModel" (348 : Nat) ({ cls := "IslandCallModel", name := "seedsOf", desc := "(I)I" } : Jvm.MethodName)) ∈ lw_all := lw_g (lw_at lw_m8 90 rfl) rfl
theorem q1911 : (Jvm.Cond.privateMethod ({ cls := "IslandCallModel", name := "seedsOf", desc := "(I)I" } : Jvm.MethodName)) ∈ lw_tbl := lw_at lw_m8 91 rfl
theorem q1912 : (Jvm.Cond.instanceMethod ({ cls := "IslandCallModel", name := "seedsOf", desc := "(I)I" } : Jvm.MethodName)) ∈ lw_all := lw_g (lw_at lw_m8 92 rfl) rfl
theorem q1913 : (Jvm.Cond.code ({ cls := "IslandCallModel", name := "seedsOf", desc := "(I)I" } : Jvm.MethodName) prog_15_method_99_code (4 : Nat) (Option.some Jvm.ClassFile.FieldType.int)) ∈ lw_all := lw_g (lw_at lw_m8 93 rfl) rfl
theorem q1915 : (Jvm.Cond.instanceMethod ({ cls := "IslandCallModel", name := "seedSet", desc := "(I)I" } : Jvm.MethodName)) ∈ lw_all := lw_g (lw_at lw_m8 95 rfl) rfl
theorem q1916 : (Jvm.Cond.selects "IslandCallModel" ({ cls := "IslandCallModel", name := "seedSet", desc := "(I)I" } : Jvm.MethodName) ({ cls := "IslandCallModel", name := "seedSet", desc := "(I)I" } : Jvm.MethodName)) ∈ lw_all := lw_g (lw_at lw_m8 96 rfl) rfl
theorem q1917 : (Jvm.Cond.code ({ cls := "IslandCallModel", name := "seedSet", desc := "(I)I" } : Jvm.MethodName) prog_15_method_101_code (2 : Nat) (Option.some Jvm.ClassFile.FieldType.int)) ∈ lw_all := lw_g (lw_at lw_m8 97 rfl) rfl
theorem q1919 : (Jvm.Cond.instanceMethod ({ cls := "IslandCallModel", name := "weight", desc := "(II)I" } : Jvm.MethodName)) ∈ lw_all := lw_g (lw_at lw_m8 99 rfl) rfl
theorem q1920 : (Jvm.Cond.selects "IslandCallModel" ({ cls := "IslandCallModel", name := "weight", desc := "(II)I" } : Jvm.MethodName) ({ cls := "IslandCallModel", name := "weight", desc := "(II)I" } : Jvm.MethodName)) ∈ lw_all := lw_g (lw_at lw_m8 100 rfl) rfl
theorem q1921 : (Jvm.Cond.code ({ cls := "IslandCallModel", name := "weight", desc := "(II)I" } : Jvm.MethodName) prog_15_method_103_code (3 : Nat) (Option.some Jvm.ClassFile.FieldType.int)) ∈ lw_all := lw_g (lw_at lw_m8 101 rfl) rfl
theorem q1922 : (Jvm.Cond.methodLink "IslandCallModel" (351 : Nat) ({ cls := "IslandCallModel", name := "weightOf", desc := "(II)I" } : Jvm.MethodName)) ∈ lw_all := lw_g (lw_at lw_m8 102 rfl) rfl
theorem q1923 : (Jvm.Cond.privateMethod ({ cls := "IslandCallModel", name := "weightOf", desc := "(II)I" } : Jvm.MethodName)) ∈ lw_tbl := lw_at lw_m8 103 rfl
theorem q1924 : (Jvm.Cond.instanceMethod ({ cls := "IslandCallModel", name := "weightOf", desc := "(II)I" } : Jvm.MethodName)) ∈ lw_all := lw_g (lw_at lw_m8 104 rfl) rfl
theorem q1925 : (Jvm.Cond.code ({ cls := "IslandCallModel", name := "weightOf", desc := "(II)I" } : Jvm.MethodName) prog_15_method_102_code (5 : Nat) (Option.some Jvm.ClassFile.FieldType.int)) ∈ lw_all := lw_g (lw_at lw_m8 105 rfl) rfl
theorem q1927 : (Jvm.Cond.instanceMethod ({ cls := "IslandCallModel", name := "keystone", desc := "(I)I" } : Jvm.MethodName)) ∈ lw_all := lw_g (lw_at lw_m8 107 rfl) rfl
theorem q1928 : (Jvm.Cond.selects "IslandCallModel" ({ cls := "IslandCallModel", name := "keystone", desc := "(I)I" } : Jvm.MethodName) ({ cls := "IslandCallModel", name := "keystone", desc := "(I)I" } : Jvm.MethodName)) ∈ lw_all := lw_g (lw_at lw_m8 108 rfl) rfl
theorem q1929 : (Jvm.Cond.code ({ cls := "IslandCallModel", name := "keystone", desc := "(I)I" } : Jvm.MethodName) prog_15_method_104_code (4 : Nat) (Option.some Jvm.ClassFile.FieldType.int)) ∈ lw_all := lw_g (lw_at lw_m8 109 rfl) rfl
theorem q1930 : (Jvm.Cond.methodLink "IslandCallModel" (354 : Nat) ({ cls := "IslandCallModel", name := "orNone", desc := "(I)I" } : Jvm.MethodName)) ∈ lw_all := lw_g (lw_at lw_m8 110 rfl) rfl
theorem q1931 : (Jvm.Cond.privateMethod ({ cls := "IslandCallModel", name := "orNone", desc := "(I)I" } : Jvm.MethodName)) ∈ lw_tbl := lw_at lw_m8 111 rfl
theorem q1932 : (Jvm.Cond.instanceMethod ({ cls := "IslandCallModel", name := "orNone", desc := "(I)I" } : Jvm.MethodName)) ∈ lw_all := lw_g (lw_at lw_m8 112 rfl) rfl
theorem q1933 : (Jvm.Cond.code ({ cls := "IslandCallModel", name := "orNone", desc := "(I)I" } : Jvm.MethodName) prog_15_method_9_code (2 : Nat) (Option.some Jvm.ClassFile.FieldType.int)) ∈ lw_all := lw_g (lw_at lw_m8 113 rfl) rfl
theorem q1935 : (Jvm.Cond.instanceMethod ({ cls := "IslandCallModel", name := "lures", desc := "(I)I" } : Jvm.MethodName)) ∈ lw_all := lw_g (lw_at lw_m8 115 rfl) rfl
theorem q1936 : (Jvm.Cond.selects "IslandCallModel" ({ cls := "IslandCallModel", name := "lures", desc := "(I)I" } : Jvm.MethodName) ({ cls := "IslandCallModel", name := "lures", desc := "(I)I" } : Jvm.MethodName)) ∈ lw_all := lw_g (lw_at lw_m8 116 rfl) rfl
theorem q1937 : (Jvm.Cond.code ({ cls := "IslandCallModel", name := "lures", desc := "(I)I" } : Jvm.MethodName) prog_15_method_106_code (3 : Nat) (Option.some Jvm.ClassFile.FieldType.int)) ∈ lw_all := lw_g (lw_at lw_m8 117 rfl) rfl
theorem q1938 : (Jvm.Cond.methodLink "IslandCallModel" (357 : Nat) ({ cls := "IslandCallModel", name := "luring", desc := "(I)I" } : Jvm.MethodName)) ∈ lw_all := lw_g (lw_at lw_m8 118 rfl) rfl
theorem q1939 : (Jvm.Cond.privateMethod ({ cls := "IslandCallModel", name := "luring", desc := "(I)I" } : Jvm.MethodName)) ∈ lw_tbl := lw_at lw_m8 119 rfl
theorem q1940 : (Jvm.Cond.instanceMethod ({ cls := "IslandCallModel", name := "luring", desc := "(I)I" } : Jvm.MethodName)) ∈ lw_all := lw_g (lw_at lw_m8 120 rfl) rfl
theorem q1941 : (Jvm.Cond.code ({ cls := "IslandCallModel", name := "luring", desc := "(I)I" } : Jvm.MethodName) prog_15_method_105_code (4 : Nat) (Option.some Jvm.ClassFile.FieldType.int)) ∈ lw_all := lw_g (lw_at lw_m8 121 rfl) rfl
theorem q1943 : (Jvm.Cond.instanceMethod ({ cls := "IslandCallModel", name := "lureSet", desc := "(I)I" } : Jvm.MethodName)) ∈ lw_all := lw_g (lw_at lw_m8 123 rfl) rfl
theorem q1944 : (Jvm.Cond.selects "IslandCallModel" ({ cls := "IslandCallModel", name := "lureSet", desc := "(I)I" } : Jvm.MethodName) ({ cls := "IslandCallModel", name := "lureSet", desc := "(I)I" } : Jvm.MethodName)) ∈ lw_all := lw_g (lw_at lw_m8 124 rfl) rfl
theorem q1945 : (Jvm.Cond.code ({ cls := "IslandCallModel", name := "lureSet", desc := "(I)I" } : Jvm.MethodName) prog_15_method_107_code (2 : Nat) (Option.some Jvm.ClassFile.FieldType.int)) ∈ lw_all := lw_g (lw_at lw_m8 125 rfl) rfl
theorem q1947 : (Jvm.Cond.instanceMethod ({ cls := "IslandCallModel", name := "best", desc := "()I" } : Jvm.MethodName)) ∈ lw_all := lw_g (lw_at lw_m8 127 rfl) rfl
theorem q1948 : (Jvm.Cond.selects "IslandCallModel" ({ cls := "IslandCallModel", name := "best", desc := "()I" } : Jvm.MethodName) ({ cls := "IslandCallModel", name := "best", desc := "()I" } : Jvm.MethodName)) ∈ lw_all := lw_g (lw_at lw_m8 128 rfl) rfl
theorem q1949 : (Jvm.Cond.code ({ cls := "IslandCallModel", name := "best", desc := "()I" } : Jvm.MethodName) prog_15_method_109_code (1 : Nat) (Option.some Jvm.ClassFile.FieldType.int)) ∈ lw_all := lw_g (lw_at lw_m8 129 rfl) rfl
theorem q1950 : (Jvm.Cond.methodLink "IslandCallModel" (360 : Nat) ({ cls := "IslandCallModel", name := "bestOmens", desc := "()I" } : Jvm.MethodName)) ∈ lw_all := lw_g (lw_at lw_m8 130 rfl) rfl
theorem q1951 : (Jvm.Cond.privateMethod ({ cls := "IslandCallModel", name := "bestOmens", desc := "()I" } : Jvm.MethodName)) ∈ lw_tbl := lw_at lw_m8 131 rfl
theorem q1952 : (Jvm.Cond.instanceMethod ({ cls := "IslandCallModel", name := "bestOmens", desc := "()I" } : Jvm.MethodName)) ∈ lw_all := lw_g (lw_at lw_m8 132 rfl) rfl
theorem q1953 : (Jvm.Cond.code ({ cls := "IslandCallModel", name := "bestOmens", desc := "()I" } : Jvm.MethodName) prog_15_method_108_code (4 : Nat) (Option.some Jvm.ClassFile.FieldType.int)) ∈ lw_all := lw_g (lw_at lw_m8 133 rfl) rfl
theorem q1955 : (Jvm.Cond.instanceMethod ({ cls := "IslandCallModel", name := "bestOut", desc := "()I" } : Jvm.MethodName)) ∈ lw_all := lw_g (lw_at lw_m8 135 rfl) rfl
theorem q1956 : (Jvm.Cond.selects "IslandCallModel" ({ cls := "IslandCallModel", name := "bestOut", desc := "()I" } : Jvm.MethodName) ({ cls := "IslandCallModel", name := "bestOut", desc := "()I" } : Jvm.MethodName)) ∈ lw_all := lw_g (lw_at lw_m8 136 rfl) rfl
theorem q1957 : (Jvm.Cond.code ({ cls := "IslandCallModel", name := "bestOut", desc := "()I" } : Jvm.MethodName) prog_15_method_110_code (1 : Nat) (Option.some Jvm.ClassFile.FieldType.int)) ∈ lw_all := lw_g (lw_at lw_m8 137 rfl) rfl
theorem q1959 : (Jvm.Cond.instanceMethod ({ cls := "IslandCallModel", name := "never", desc := "()I" } : Jvm.MethodName)) ∈ lw_all := lw_g (lw_at lw_m8 139 rfl) rfl
theorem q1960 : (Jvm.Cond.selects "IslandCallModel" ({ cls := "IslandCallModel", name := "never", desc := "()I" } : Jvm.MethodName) ({ cls := "IslandCallModel", name := "never", desc := "()I" } : Jvm.MethodName)) ∈ lw_all := lw_g (lw_at lw_m8 140 rfl) rfl
theorem q1961 : (Jvm.Cond.code ({ cls := "IslandCallModel", name := "never", desc := "()I" } : Jvm.MethodName) prog_15_method_111_code (3 : Nat) (Option.some Jvm.ClassFile.FieldType.int)) ∈ lw_all := lw_g (lw_at lw_m8 141 rfl) rfl
theorem q1963 : (Jvm.Cond.instanceMethod ({ cls := "IslandCallModel", name := "outIn", desc := "(I)I" } : Jvm.MethodName)) ∈ lw_all := lw_g (lw_at lw_m8 143 rfl) rfl
theorem q1964 : (Jvm.Cond.selects "IslandCallModel" ({ cls := "IslandCallModel", name := "outIn", desc := "(I)I" } : Jvm.MethodName) ({ cls := "IslandCallModel", name := "outIn", desc := "(I)I" } : Jvm.MethodName)) ∈ lw_all := lw_g (lw_at lw_m8 144 rfl) rfl
theorem q1965 : (Jvm.Cond.code ({ cls := "IslandCallModel", name := "outIn", desc := "(I)I" } : Jvm.MethodName) prog_15_method_115_code (3 : Nat) (Option.some Jvm.ClassFile.FieldType.int)) ∈ lw_all := lw_g (lw_at lw_m8 145 rfl) rfl
theorem q1966 : (Jvm.Cond.constantLong "IslandCallModel" (363 : Nat) (60 : Int64)) ∈ lw_all := lw_g (lw_at lw_m8 146 rfl) rfl
theorem q1967 : (Jvm.Cond.methodLink "IslandCallModel" (365 : Nat) ({ cls := "IslandCallModel", name := "keeps", desc := "(I)V" } : Jvm.MethodName)) ∈ lw_all := lw_g (lw_at lw_m8 147 rfl) rfl
theorem q1968 : (Jvm.Cond.privateMethod ({ cls := "IslandCallModel", name := "keeps", desc := "(I)V" } : Jvm.MethodName)) ∈ lw_tbl := lw_at lw_m8 148 rfl
theorem q1969 : (Jvm.Cond.instanceMethod ({ cls := "IslandCallModel", name := "keeps", desc := "(I)V" } : Jvm.MethodName)) ∈ lw_all := lw_g (lw_at lw_m8 149 rfl) rfl
theorem q1970 : (Jvm.Cond.code ({ cls := "IslandCallModel", name := "keeps", desc := "(I)V" } : Jvm.MethodName) prog_15_method_112_code (3 : Nat) (Option.none : Option Jvm.ClassFile.FieldType)) ∈ lw_all := lw_g (lw_at lw_m8 150 rfl) rfl
theorem q1971 : (Jvm.Cond.methodLink "IslandCallModel" (368 : Nat) ({ cls := "IslandCallModel", name := "callsGo", desc := "(I)V" } : Jvm.MethodName)) ∈ lw_all := lw_g (lw_at lw_m8 151 rfl) rfl
theorem q1972 : (Jvm.Cond.privateMethod ({ cls := "IslandCallModel", name := "callsGo", desc := "(I)V" } : Jvm.MethodName)) ∈ lw_tbl := lw_at lw_m8 152 rfl
theorem q1973 : (Jvm.Cond.instanceMethod ({ cls := "IslandCallModel", name := "callsGo", desc := "(I)V" } : Jvm.MethodName)) ∈ lw_all := lw_g (lw_at lw_m8 153 rfl) rfl
theorem q1974 : (Jvm.Cond.code ({ cls := "IslandCallModel", name := "callsGo", desc := "(I)V" } : Jvm.MethodName) prog_15_method_114_code (3 : Nat) (Option.none : Option Jvm.ClassFile.FieldType)) ∈ lw_all := lw_g (lw_at lw_m8 154 rfl) rfl
theorem q1975 : (Jvm.Cond.methodLink "IslandCallModel" (371 : Nat) ({ cls := "IslandCallModel", name := "restores", desc := "(I)V" } : Jvm.MethodName)) ∈ lw_all := lw_g (lw_at lw_m8 155 rfl) rfl
theorem q1976 : (Jvm.Cond.privateMethod ({ cls := "IslandCallModel", name := "restores", desc := "(I)V" } : Jvm.MethodName)) ∈ lw_tbl := lw_at lw_m8 156 rfl
theorem q1977 : (Jvm.Cond.instanceMethod ({ cls := "IslandCallModel", name := "restores", desc := "(I)V" } : Jvm.MethodName)) ∈ lw_all := lw_g (lw_at lw_m8 157 rfl) rfl
theorem q1978 : (Jvm.Cond.code ({ cls := "IslandCallModel", name := "restores", desc := "(I)V" } : Jvm.MethodName) prog_15_method_113_code (3 : Nat) (Option.none : Option Jvm.ClassFile.FieldType)) ∈ lw_all := lw_g (lw_at lw_m8 158 rfl) rfl
theorem q1980 : (Jvm.Cond.instanceMethod ({ cls := "IslandCallModel", name := "outAt", desc := "(I)I" } : Jvm.MethodName)) ∈ lw_all := lw_g (lw_at lw_m8 160 rfl) rfl
theorem q1981 : (Jvm.Cond.selects "IslandCallModel" ({ cls := "IslandCallModel", name := "outAt", desc := "(I)I" } : Jvm.MethodName) ({ cls := "IslandCallModel", name := "outAt", desc := "(I)I" } : Jvm.MethodName)) ∈ lw_all := lw_g (lw_at lw_m8 161 rfl) rfl
theorem q1982 : (Jvm.Cond.code ({ cls := "IslandCallModel", name := "outAt", desc := "(I)I" } : Jvm.MethodName) prog_15_method_116_code (4 : Nat) (Option.some Jvm.ClassFile.FieldType.int)) ∈ lw_all := lw_g (lw_at lw_m8 162 rfl) rfl
theorem q1984 : (Jvm.Cond.instanceMethod ({ cls := "IslandCallModel", name := "holdIn", desc := "(II)I" } : Jvm.MethodName)) ∈ lw_all := lw_g (lw_at lw_m8 164 rfl) rfl
theorem q1985 : (Jvm.Cond.selects "IslandCallModel" ({ cls := "IslandCallModel", name := "holdIn", desc := "(II)I" } : Jvm.MethodName) ({ cls := "IslandCallModel", name := "holdIn", desc := "(II)I" } : Jvm.MethodName)) ∈ lw_all := lw_g (lw_at lw_m8 165 rfl) rfl
theorem q1986 : (Jvm.Cond.code ({ cls := "IslandCallModel", name := "holdIn", desc := "(II)I" } : Jvm.MethodName) prog_15_method_117_code (4 : Nat) (Option.some Jvm.ClassFile.FieldType.int)) ∈ lw_all := lw_g (lw_at lw_m8 166 rfl) rfl
theorem q1988 : (Jvm.Cond.instanceMethod ({ cls := "IslandCallModel", name := "fits", desc := "(III)I" } : Jvm.MethodName)) ∈ lw_all := lw_g (lw_at lw_m8 168 rfl) rfl
theorem q1989 : (Jvm.Cond.selects "IslandCallModel" ({ cls := "IslandCallModel", name := "fits", desc := "(III)I" } : Jvm.MethodName) ({ cls := "IslandCallModel", name := "fits", desc := "(III)I" } : Jvm.MethodName)) ∈ lw_all := lw_g (lw_at lw_m8 169 rfl) rfl
theorem q1990 : (Jvm.Cond.code ({ cls := "IslandCallModel", name := "fits", desc := "(III)I" } : Jvm.MethodName) prog_15_method_121_code (5 : Nat) (Option.some Jvm.ClassFile.FieldType.int)) ∈ lw_all := lw_g (lw_at lw_m8 170 rfl) rfl
theorem q1991 : (Jvm.Cond.methodLink "IslandCallModel" (380 : Nat) ({ cls := "IslandCallModel", name := "wrongFits", desc := "(III)I" } : Jvm.MethodName)) ∈ lw_all := lw_g (lw_at lw_m8 171 rfl) rfl
theorem q1992 : (Jvm.Cond.privateMethod ({ cls := "IslandCallModel", name := "wrongFits", desc := "(III)I" } : Jvm.MethodName)) ∈ lw_tbl := lw_at lw_m8 172 rfl
theorem q1993 : (Jvm.Cond.instanceMethod ({ cls := "IslandCallModel", name := "wrongFits", desc := "(III)I" } : Jvm.MethodName)) ∈ lw_all := lw_g (lw_at lw_m8 173 rfl) rfl
theorem q1994 : (Jvm.Cond.code ({ cls := "IslandCallModel", name := "wrongFits", desc := "(III)I" } : Jvm.MethodName) prog_15_method_118_code (5 : Nat) (Option.some Jvm.ClassFile.FieldType.int)) ∈ lw_all := lw_g (lw_at lw_m8 174 rfl) rfl
theorem q1995 : (Jvm.Cond.constantLong "IslandCallModel" (374 : Nat) (20 : Int64)) ∈ lw_all := lw_g (lw_at lw_m8 175 rfl) rfl
theorem q1996 : (Jvm.Cond.methodLink "IslandCallModel" (384 : Nat) ({ cls := "IslandCallModel", name := "holdsOf", desc := "(III)I" } : Jvm.MethodName)) ∈ lw_all := lw_g (lw_at lw_m8 176 rfl) rfl
theorem q1997 : (Jvm.Cond.privateMethod ({ cls := "IslandCallModel", name := "holdsOf", desc := "(III)I" } : Jvm.MethodName)) ∈ lw_tbl := lw_at lw_m8 177 rfl
theorem q1998 : (Jvm.Cond.instanceMethod ({ cls := "IslandCallModel", name := "holdsOf", desc := "(III)I" } : Jvm.MethodName)) ∈ lw_all := lw_g (lw_at lw_m8 178 rfl) rfl
theorem q1999 : (Jvm.Cond.code ({ cls := "IslandCallModel", name := "holdsOf", desc := "(III)I" } : Jvm.MethodName) prog_15_method_120_code (6 : Nat) (Option.some Jvm.ClassFile.FieldType.int)) ∈ lw_all := lw_g (lw_at lw_m8 179 rfl) rfl
theorem q2000 : (Jvm.Cond.methodLink "IslandCallModel" (376 : Nat) ({ cls := "IslandCallModel", name := "doesFit", desc := "(IIII)Z" } : Jvm.MethodName)) ∈ lw_all := lw_g (lw_at lw_m8 180 rfl) rfl
theorem q2001 : (Jvm.Cond.privateMethod ({ cls := "IslandCallModel", name := "doesFit", desc := "(IIII)Z" } : Jvm.MethodName)) ∈ lw_tbl := lw_at lw_m8 181 rfl
theorem q2002 : (Jvm.Cond.instanceMethod ({ cls := "IslandCallModel", name := "doesFit", desc := "(IIII)Z" } : Jvm.MethodName)) ∈ lw_all := lw_g (lw_at lw_m8 182 rfl) rfl
theorem q2003 : (Jvm.Cond.code ({ cls := "IslandCallModel", name := "doesFit", desc := "(IIII)Z" } : Jvm.MethodName) prog_15_method_119_code (9 : Nat) (Option.some Jvm.ClassFile.FieldType.boolean)) ∈ lw_all := lw_g (lw_at lw_m8 183 rfl) rfl
theorem q2005 : (Jvm.Cond.instanceMethod ({ cls := "IslandCallModel", name := "fitsAt", desc := "(IIII)I" } : Jvm.MethodName)) ∈ lw_all := lw_g (lw_at lw_m8 185 rfl) rfl
theorem q2006 : (Jvm.Cond.selects "IslandCallModel" ({ cls := "IslandCallModel", name := "fitsAt", desc := "(IIII)I" } : Jvm.MethodName) ({ cls := "IslandCallModel", name := "fitsAt", desc := "(IIII)I" } : Jvm.MethodName)) ∈ lw_all := lw_g (lw_at lw_m8 186 rfl) rfl
theorem q2007 : (Jvm.Cond.code ({ cls := "IslandCallModel", name := "fitsAt", desc := "(IIII)I" } : Jvm.MethodName) prog_15_method_122_code (8 : Nat) (Option.some Jvm.ClassFile.FieldType.int)) ∈ lw_all := lw_g (lw_at lw_m8 187 rfl) rfl
theorem q2009 : (Jvm.Cond.instanceMethod ({ cls := "IslandCallModel", name := "ask", desc := "(III)I" } : Jvm.MethodName)) ∈ lw_all := lw_g (lw_at lw_m8 189 rfl) rfl
theorem q2010 : (Jvm.Cond.selects "IslandCallModel" ({ cls := "IslandCallModel", name := "ask", desc := "(III)I" } : Jvm.MethodName) ({ cls := "IslandCallModel", name := "ask", desc := "(III)I" } : Jvm.MethodName)) ∈ lw_all := lw_g (lw_at lw_m8 190 rfl) rfl
theorem q2011 : (Jvm.Cond.code ({ cls := "IslandCallModel", name := "ask", desc := "(III)I" } : Jvm.MethodName) prog_15_method_123_code (11 : Nat) (Option.some Jvm.ClassFile.FieldType.int)) ∈ lw_all := lw_g (lw_at lw_m8 191 rfl) rfl
theorem q2013 : (Jvm.Cond.instanceMethod ({ cls := "IslandCallModel", name := "lookouts", desc := "()I" } : Jvm.MethodName)) ∈ lw_all := lw_g (lw_at lw_m8 193 rfl) rfl
theorem q2014 : (Jvm.Cond.selects "IslandCallModel" ({ cls := "IslandCallModel", name := "lookouts", desc := "()I" } : Jvm.MethodName) ({ cls := "IslandCallModel", name := "lookouts", desc := "()I" } : Jvm.MethodName)) ∈ lw_all := lw_g (lw_at lw_m8 194 rfl) rfl
theorem q2015 : (Jvm.Cond.code ({ cls := "IslandCallModel", name := "lookouts", desc := "()I" } : Jvm.MethodName) prog_15_method_125_code (1 : Nat) (Option.some Jvm.ClassFile.FieldType.int)) ∈ lw_all := lw_g (lw_at lw_m8 195 rfl) rfl
theorem q2016 : (Jvm.Cond.methodLink "IslandCallModel" (387 : Nat) ({ cls := "IslandCallModel", name := "lookoutsOf", desc := "()I" } : Jvm.MethodName)) ∈ lw_all := lw_g (lw_at lw_m8 196 rfl) rfl
theorem q2017 : (Jvm.Cond.privateMethod ({ cls := "IslandCallModel", name := "lookoutsOf", desc := "()I" } : Jvm.MethodName)) ∈ lw_tbl := lw_at lw_m8 197 rfl
theorem q2018 : (Jvm.Cond.instanceMethod ({ cls := "IslandCallModel", name := "lookoutsOf", desc := "()I" } : Jvm.MethodName)) ∈ lw_all := lw_g (lw_at lw_m8 198 rfl) rfl
theorem q2019 : (Jvm.Cond.code ({ cls := "IslandCallModel", name := "lookoutsOf", desc := "()I" } : Jvm.MethodName) prog_15_method_124_code (5 : Nat) (Option.some Jvm.ClassFile.FieldType.int)) ∈ lw_all := lw_g (lw_at lw_m8 199 rfl) rfl
theorem q2021 : (Jvm.Cond.instanceMethod ({ cls := "IslandCallModel", name := "lookoutSet", desc := "()I" } : Jvm.MethodName)) ∈ lw_all := lw_g (lw_at lw_m8 201 rfl) rfl
theorem q2022 : (Jvm.Cond.selects "IslandCallModel" ({ cls := "IslandCallModel", name := "lookoutSet", desc := "()I" } : Jvm.MethodName) ({ cls := "IslandCallModel", name := "lookoutSet", desc := "()I" } : Jvm.MethodName)) ∈ lw_all := lw_g (lw_at lw_m8 202 rfl) rfl
theorem q2023 : (Jvm.Cond.code ({ cls := "IslandCallModel", name := "lookoutSet", desc := "()I" } : Jvm.MethodName) prog_15_method_126_code (1 : Nat) (Option.some Jvm.ClassFile.FieldType.int)) ∈ lw_all := lw_g (lw_at lw_m8 203 rfl) rfl
theorem q2025 : (Jvm.Cond.instanceMethod ({ cls := "IslandCallModel", name := "couples", desc := "()I" } : Jvm.MethodName)) ∈ lw_all := lw_g (lw_at lw_m8 205 rfl) rfl
theorem q2026 : (Jvm.Cond.selects "IslandCallModel" ({ cls := "IslandCallModel", name := "couples", desc := "()I" } : Jvm.MethodName) ({ cls := "IslandCallModel", name := "couples", desc := "()I" } : Jvm.MethodName)) ∈ lw_all := lw_g (lw_at lw_m8 206 rfl) rfl
theorem q2027 : (Jvm.Cond.code ({ cls := "IslandCallModel", name := "couples", desc := "()I" } : Jvm.MethodName) prog_15_method_127_code (4 : Nat) (Option.some Jvm.ClassFile.FieldType.int)) ∈ lw_all := lw_g (lw_at lw_m8 207 rfl) rfl
theorem q2029 : (Jvm.Cond.instanceMethod ({ cls := "IslandCallModel", name := "game", desc := "(I)I" } : Jvm.MethodName)) ∈ lw_all := lw_g (lw_at lw_m8 209 rfl) rfl
theorem q2030 : (Jvm.Cond.selects "IslandCallModel" ({ cls := "IslandCallModel", name := "game", desc := "(I)I" } : Jvm.MethodName) ({ cls := "IslandCallModel", name := "game", desc := "(I)I" } : Jvm.MethodName)) ∈ lw_all := lw_g (lw_at lw_m8 210 rfl) rfl
theorem q2031 : (Jvm.Cond.code ({ cls := "IslandCallModel", name := "game", desc := "(I)I" } : Jvm.MethodName) prog_15_method_130_code (2 : Nat) (Option.some Jvm.ClassFile.FieldType.int)) ∈ lw_all := lw_g (lw_at lw_m8 211 rfl) rfl
theorem q2032 : (Jvm.Cond.methodLink "IslandCallModel" (397 : Nat) ({ cls := "IslandCallModel", name := "playing", desc := "(I)I" } : Jvm.MethodName)) ∈ lw_all := lw_g (lw_at lw_m8 212 rfl) rfl
theorem q2033 : (Jvm.Cond.privateMethod ({ cls := "IslandCallModel", name := "playing", desc := "(I)I" } : Jvm.MethodName)) ∈ lw_tbl := lw_at lw_m8 213 rfl
theorem q2034 : (Jvm.Cond.instanceMethod ({ cls := "IslandCallModel", name := "playing", desc := "(I)I" } : Jvm.MethodName)) ∈ lw_all := lw_g (lw_at lw_m8 214 rfl) rfl
theorem q2035 : (Jvm.Cond.code ({ cls := "IslandCallModel", name := "playing", desc := "(I)I" } : Jvm.MethodName) prog_15_method_129_code (4 : Nat) (Option.some Jvm.ClassFile.FieldType.int)) ∈ lw_all := lw_g (lw_at lw_m8 215 rfl) rfl
theorem q2036 : (Jvm.Cond.methodLink "IslandCallModel" (393 : Nat) ({ cls := "IslandCallModel", name := "turnsTo", desc := "(IZ)I" } : Jvm.MethodName)) ∈ lw_all := lw_g (lw_at lw_m8 216 rfl) rfl
theorem q2037 : (Jvm.Cond.privateMethod ({ cls := "IslandCallModel", name := "turnsTo", desc := "(IZ)I" } : Jvm.MethodName)) ∈ lw_tbl := lw_at lw_m8 217 rfl
theorem q2038 : (Jvm.Cond.instanceMethod ({ cls := "IslandCallModel", name := "turnsTo", desc := "(IZ)I" } : Jvm.MethodName)) ∈ lw_all := lw_g (lw_at lw_m8 218 rfl) rfl
theorem q2039 : (Jvm.Cond.code ({ cls := "IslandCallModel", name := "turnsTo", desc := "(IZ)I" } : Jvm.MethodName) prog_15_method_128_code (6 : Nat) (Option.some Jvm.ClassFile.FieldType.int)) ∈ lw_all := lw_g (lw_at lw_m8 219 rfl) rfl
theorem q2041 : (Jvm.Cond.instanceMethod ({ cls := "IslandCallModel", name := "moveOf", desc := "(I)I" } : Jvm.MethodName)) ∈ lw_all := lw_g (lw_at lw_m8 221 rfl) rfl
theorem q2042 : (Jvm.Cond.selects "IslandCallModel" ({ cls := "IslandCallModel", name := "moveOf", desc := "(I)I" } : Jvm.MethodName) ({ cls := "IslandCallModel", name := "moveOf", desc := "(I)I" } : Jvm.MethodName)) ∈ lw_all := lw_g (lw_at lw_m8 222 rfl) rfl
theorem q2043 : (Jvm.Cond.code ({ cls := "IslandCallModel", name := "moveOf", desc := "(I)I" } : Jvm.MethodName) prog_15_method_131_code (2 : Nat) (Option.some Jvm.ClassFile.FieldType.int)) ∈ lw_all := lw_g (lw_at lw_m8 223 rfl) rfl
theorem q2045 : (Jvm.Cond.instanceMethod ({ cls := "IslandCallModel", name := "tides", desc := "(II)Z" } : Jvm.MethodName)) ∈ lw_all := lw_g (lw_at lw_m8 225 rfl) rfl
theorem q2046 : (Jvm.Cond.selects "IslandCallModel" ({ cls := "IslandCallModel", name := "tides", desc := "(II)Z" } : Jvm.MethodName) ({ cls := "IslandCallModel", name := "tides", desc := "(II)Z" } : Jvm.MethodName)) ∈ lw_all := lw_g (lw_at lw_m8 226 rfl) rfl
theorem q2047 : (Jvm.Cond.code ({ cls := "IslandCallModel", name := "tides", desc := "(II)Z" } : Jvm.MethodName) prog_15_method_132_code (8 : Nat) (Option.some Jvm.ClassFile.FieldType.boolean)) ∈ lw_all := lw_g (lw_at lw_m8 227 rfl) rfl
theorem q2048 : (Jvm.Cond.constantLong "IslandCallModel" (400 : Nat) (12 : Int64)) ∈ lw_all := lw_g (lw_at lw_m8 228 rfl) rfl
theorem q2049 : (Jvm.Cond.methodLink "IslandCallModel" (402 : Nat) ({ cls := "IslandCallModel", name := "tellsBy", desc := "(JJ)Z" } : Jvm.MethodName)) ∈ lw_all := lw_g (lw_at lw_m8 229 rfl) rfl
theorem q2050 : (Jvm.Cond.privateMethod ({ cls := "IslandCallModel", name := "tellsBy", desc := "(JJ)Z" } : Jvm.MethodName)) ∈ lw_tbl := lw_at lw_m8 230 rfl
theorem q2051 : (Jvm.Cond.instanceMethod ({ cls := "IslandCallModel", name := "tellsBy", desc := "(JJ)Z" } : Jvm.MethodName)) ∈ lw_all := lw_g (lw_at lw_m8 231 rfl) rfl
theorem q2052 : (Jvm.Cond.code ({ cls := "IslandCallModel", name := "tellsBy", desc := "(JJ)Z" } : Jvm.MethodName) prog_15_method_10_code (11 : Nat) (Option.some Jvm.ClassFile.FieldType.boolean)) ∈ lw_all := lw_g (lw_at lw_m8 232 rfl) rfl
theorem q2054 : (Jvm.Cond.instanceMethod ({ cls := "IslandCallModel", name := "sloth", desc := "(I)Z" } : Jvm.MethodName)) ∈ lw_all := lw_g (lw_at lw_m8 234 rfl) rfl
theorem q2055 : (Jvm.Cond.selects "IslandCallModel" ({ cls := "IslandCallModel", name := "sloth", desc := "(I)Z" } : Jvm.MethodName) ({ cls := "IslandCallModel", name := "sloth", desc := "(I)Z" } : Jvm.MethodName)) ∈ lw_all := lw_g (lw_at lw_m8 235 rfl) rfl
theorem q2056 : (Jvm.Cond.code ({ cls := "IslandCallModel", name := "sloth", desc := "(I)Z" } : Jvm.MethodName) prog_15_method_133_code (2 : Nat) (Option.some Jvm.ClassFile.FieldType.boolean)) ∈ lw_all := lw_g (lw_at lw_m8 236 rfl) rfl
theorem q2058 : (Jvm.Cond.instanceMethod ({ cls := "IslandCallModel", name := "copyHolds", desc := "(I)I" } : Jvm.MethodName)) ∈ lw_all := lw_g (lw_at lw_m8 238 rfl) rfl
theorem q2059 : (Jvm.Cond.selects "IslandCallModel" ({ cls := "IslandCallModel", name := "copyHolds", desc := "(I)I" } : Jvm.MethodName) ({ cls := "IslandCallModel", name := "copyHolds", desc := "(I)I" } : Jvm.MethodName)) ∈ lw_all := lw_g (lw_at lw_m8 239 rfl) rfl
theorem q2060 : (Jvm.Cond.code ({ cls := "IslandCallModel", name := "copyHolds", desc := "(I)I" } : Jvm.MethodName) prog_15_method_134_code (3 : Nat) (Option.some Jvm.ClassFile.FieldType.int)) ∈ lw_all := lw_g (lw_at lw_m9 0 rfl) rfl
theorem q2062 : (Jvm.Cond.instanceMethod ({ cls := "IslandCallModel", name := "live", desc := "(I)I" } : Jvm.MethodName)) ∈ lw_all := lw_g (lw_at lw_m9 2 rfl) rfl
theorem q2063 : (Jvm.Cond.selects "IslandCallModel" ({ cls := "IslandCallModel", name := "live", desc := "(I)I" } : Jvm.MethodName) ({ cls := "IslandCallModel", name := "live", desc := "(I)I" } : Jvm.MethodName)) ∈ lw_all := lw_g (lw_at lw_m9 3 rfl) rfl
theorem q2064 : (Jvm.Cond.code ({ cls := "IslandCallModel", name := "live", desc := "(I)I" } : Jvm.MethodName) prog_15_method_141_code (3 : Nat) (Option.some Jvm.ClassFile.FieldType.int)) ∈ lw_all := lw_g (lw_at lw_m9 4 rfl) rfl
theorem q2065 : (Jvm.Cond.constantLong "IslandCallModel" (428 : Nat) (9999 : Int64)) ∈ lw_all := lw_g (lw_at lw_m9 5 rfl) rfl
theorem q2066 : (Jvm.Cond.methodLink "IslandCallModel" (430 : Nat) ({ cls := "IslandCallModel", name := "lives", desc := "(I)V" } : Jvm.MethodName)) ∈ lw_all := lw_g (lw_at lw_m9 6 rfl) rfl
theorem q2067 : (Jvm.Cond.privateMethod ({ cls := "IslandCallModel", name := "lives", desc := "(I)V" } : Jvm.MethodName)) ∈ lw_tbl := lw_at lw_m9 7 rfl
theorem q2068 : (Jvm.Cond.instanceMethod ({ cls := "IslandCallModel", name := "lives", desc := "(I)V" } : Jvm.MethodName)) ∈ lw_all := lw_g (lw_at lw_m9 8 rfl) rfl
theorem q2069 : (Jvm.Cond.code ({ cls := "IslandCallModel", name := "lives", desc := "(I)V" } : Jvm.MethodName) prog_15_method_140_code (4 : Nat) (Option.none : Option Jvm.ClassFile.FieldType)) ∈ lw_all := lw_g (lw_at lw_m9 9 rfl) rfl
theorem q2070 : (Jvm.Cond.methodLink "IslandCallModel" (419 : Nat) ({ cls := "IslandCallModel", name := "does", desc := "(I)Z" } : Jvm.MethodName)) ∈ lw_all := lw_g (lw_at lw_m9 10 rfl) rfl
theorem q2071 : (Jvm.Cond.privateMethod ({ cls := "IslandCallModel", name := "does", desc := "(I)Z" } : Jvm.MethodName)) ∈ lw_tbl := lw_at lw_m9 11 rfl
theorem q2072 : (Jvm.Cond.instanceMethod ({ cls := "IslandCallModel", name := "does", desc := "(I)Z" } : Jvm.MethodName)) ∈ lw_all := lw_g (lw_at lw_m9 12 rfl) rfl
theorem q2073 : (Jvm.Cond.code ({ cls := "IslandCallModel", name := "does", desc := "(I)Z" } : Jvm.MethodName) prog_15_method_137_code (3 : Nat) (Option.some Jvm.ClassFile.FieldType.boolean)) ∈ lw_all := lw_g (lw_at lw_m9 13 rfl) rfl
theorem q2074 : (Jvm.Cond.methodLink "IslandCallModel" (410 : Nat) ({ cls := "IslandCallModel", name := "callsBy", desc := "()Z" } : Jvm.MethodName)) ∈ lw_all := lw_g (lw_at lw_m9 14 rfl) rfl
theorem q2075 : (Jvm.Cond.privateMethod ({ cls := "IslandCallModel", name := "callsBy", desc := "()Z" } : Jvm.MethodName)) ∈ lw_tbl := lw_at lw_m9 15 rfl
theorem q2076 : (Jvm.Cond.instanceMethod ({ cls := "IslandCallModel", name := "callsBy", desc := "()Z" } : Jvm.MethodName)) ∈ lw_all := lw_g (lw_at lw_m9 16 rfl) rfl
theorem q2077 : (Jvm.Cond.code ({ cls := "IslandCallModel", name := "callsBy", desc := "()Z" } : Jvm.MethodName) prog_15_method_136_code (2 : Nat) (Option.some Jvm.ClassFile.FieldType.boolean)) ∈ lw_all := lw_g (lw_at lw_m9 17 rfl) rfl
theorem q2078 : (Jvm.Cond.methodLink "IslandCallModel" (413 : Nat) ({ cls := "IslandCallModel", name := "draw", desc := "(I)I" } : Jvm.MethodName)) ∈ lw_all := lw_g (lw_at lw_m9 18 rfl) rfl
theorem q2079 : (Jvm.Cond.privateMethod ({ cls := "IslandCallModel", name := "draw", desc := "(I)I" } : Jvm.MethodName)) ∈ lw_tbl := lw_at lw_m9 19 rfl
theorem q2080 : (Jvm.Cond.instanceMethod ({ cls := "IslandCallModel", name := "draw", desc := "(I)I" } : Jvm.MethodName)) ∈ lw_all := lw_g (lw_at lw_m9 20 rfl) rfl
theorem q2081 : (Jvm.Cond.code ({ cls := "IslandCallModel", name := "draw", desc := "(I)I" } : Jvm.MethodName) prog_15_method_135_code (2 : Nat) (Option.some Jvm.ClassFile.FieldType.int)) ∈ lw_all := lw_g (lw_at lw_m9 21 rfl) rfl
theorem q2082 : (Jvm.Cond.constant "IslandCallModel" (409 : Nat) (65536 : Int32)) ∈ lw_all := lw_g (lw_at lw_m9 22 rfl) rfl
theorem q2083 : (Jvm.Cond.methodLink "IslandCallModel" (422 : Nat) ({ cls := "IslandCallModel", name := "holds", desc := "(I)Z" } : Jvm.MethodName)) ∈ lw_all := lw_g (lw_at lw_m9 23 rfl) rfl
theorem q2084 : (Jvm.Cond.privateMethod ({ cls := "IslandCallModel", name := "holds", desc := "(I)Z" } : Jvm.MethodName)) ∈ lw_tbl := lw_at lw_m9 24 rfl
theorem q2085 : (Jvm.Cond.instanceMethod ({ cls := "IslandCallModel", name := "holds", desc := "(I)Z" } : Jvm.MethodName)) ∈ lw_all := lw_g (lw_at lw_m9 25 rfl) rfl
theorem q2086 : (Jvm.Cond.code ({ cls := "IslandCallModel", name := "holds", desc := "(I)Z" } : Jvm.MethodName) prog_15_method_138_code (5 : Nat) (Option.some Jvm.ClassFile.FieldType.boolean)) ∈ lw_all := lw_g (lw_at lw_m9 26 rfl) rfl
theorem q2087 : (Jvm.Cond.methodLink "IslandCallModel" (425 : Nat) ({ cls := "IslandCallModel", name := "behindEnds", desc := "(I)I" } : Jvm.MethodName)) ∈ lw_all := lw_g (lw_at lw_m9 27 rfl) rfl
theorem q2088 : (Jvm.Cond.privateMethod ({ cls := "IslandCallModel", name := "behindEnds", desc := "(I)I" } : Jvm.MethodName)) ∈ lw_tbl := lw_at lw_m9 28 rfl
theorem q2089 : (Jvm.Cond.instanceMethod ({ cls := "IslandCallModel", name := "behindEnds", desc := "(I)I" } : Jvm.MethodName)) ∈ lw_all := lw_g (lw_at lw_m9 29 rfl) rfl
theorem q2090 : (Jvm.Cond.code ({ cls := "IslandCallModel", name := "behindEnds", desc := "(I)I" } : Jvm.MethodName) prog_15_method_139_code (5 : Nat) (Option.some Jvm.ClassFile.FieldType.int)) ∈ lw_all := lw_g (lw_at lw_m9 30 rfl) rfl
theorem q2092 : (Jvm.Cond.instanceMethod ({ cls := "IslandCallModel", name := "lived", desc := "(I)I" } : Jvm.MethodName)) ∈ lw_all := lw_g (lw_at lw_m9 32 rfl) rfl
theorem q2093 : (Jvm.Cond.selects "IslandCallModel" ({ cls := "IslandCallModel", name := "lived", desc := "(I)I" } : Jvm.MethodName) ({ cls := "IslandCallModel", name := "lived", desc := "(I)I" } : Jvm.MethodName)) ∈ lw_all := lw_g (lw_at lw_m9 33 rfl) rfl
theorem q2094 : (Jvm.Cond.code ({ cls := "IslandCallModel", name := "lived", desc := "(I)I" } : Jvm.MethodName) prog_15_method_142_code (2 : Nat) (Option.some Jvm.ClassFile.FieldType.int)) ∈ lw_all := lw_g (lw_at lw_m9 34 rfl) rfl
theorem q2096 : (Jvm.Cond.instanceMethod ({ cls := "IslandCallModel", name := "mean", desc := "(II)Z" } : Jvm.MethodName)) ∈ lw_all := lw_g (lw_at lw_m9 36 rfl) rfl
theorem q2097 : (Jvm.Cond.selects "IslandCallModel" ({ cls := "IslandCallModel", name := "mean", desc := "(II)Z" } : Jvm.MethodName) ({ cls := "IslandCallModel", name := "mean", desc := "(II)Z" } : Jvm.MethodName)) ∈ lw_all := lw_g (lw_at lw_m9 37 rfl) rfl
theorem q2098 : (Jvm.Cond.code ({ cls := "IslandCallModel", name := "mean", desc := "(II)Z" } : Jvm.MethodName) prog_15_method_143_code (6 : Nat) (Option.some Jvm.ClassFile.FieldType.boolean)) ∈ lw_all := lw_g (lw_at lw_m9 38 rfl) rfl
theorem q2100 : (Jvm.Cond.instanceMethod ({ cls := "IslandCallModel", name := "mark", desc := "()I" } : Jvm.MethodName)) ∈ lw_all := lw_g (lw_at lw_m9 40 rfl) rfl
theorem q2101 : (Jvm.Cond.selects "IslandCallModel" ({ cls := "IslandCallModel", name := "mark", desc := "()I" } : Jvm.MethodName) ({ cls := "IslandCallModel", name := "mark", desc := "()I" } : Jvm.MethodName)) ∈ lw_all := lw_g (lw_at lw_m9 41 rfl) rfl
theorem q2102 : (Jvm.Cond.code ({ cls := "IslandCallModel", name := "mark", desc := "()I" } : Jvm.MethodName) prog_15_method_145_code (1 : Nat) (Option.some Jvm.ClassFile.FieldType.int)) ∈ lw_all := lw_g (lw_at lw_m9 42 rfl) rfl
theorem q2103 : (Jvm.Cond.methodLink "IslandCallModel" (440 : Nat) ({ cls := "IslandCallModel", name := "copies", desc := "(II)V" } : Jvm.MethodName)) ∈ lw_all := lw_g (lw_at lw_m9 43 rfl) rfl
theorem q2104 : (Jvm.Cond.privateMethod ({ cls := "IslandCallModel", name := "copies", desc := "(II)V" } : Jvm.MethodName)) ∈ lw_tbl := lw_at lw_m9 44 rfl
theorem q2105 : (Jvm.Cond.instanceMethod ({ cls := "IslandCallModel", name := "copies", desc := "(II)V" } : Jvm.MethodName)) ∈ lw_all := lw_g (lw_at lw_m9 45 rfl) rfl
theorem q2106 : (Jvm.Cond.code ({ cls := "IslandCallModel", name := "copies", desc := "(II)V" } : Jvm.MethodName) prog_15_method_144_code (4 : Nat) (Option.none : Option Jvm.ClassFile.FieldType)) ∈ lw_all := lw_g (lw_at lw_m9 46 rfl) rfl
theorem q2108 : (Jvm.Cond.instanceMethod ({ cls := "IslandCallModel", name := "undo", desc := "()I" } : Jvm.MethodName)) ∈ lw_all := lw_g (lw_at lw_m9 48 rfl) rfl
theorem q2109 : (Jvm.Cond.selects "IslandCallModel" ({ cls := "IslandCallModel", name := "undo", desc := "()I" } : Jvm.MethodName) ({ cls := "IslandCallModel", name := "undo", desc := "()I" } : Jvm.MethodName)) ∈ lw_all := lw_g (lw_at lw_m9 49 rfl) rfl
theorem q2110 : (Jvm.Cond.code ({ cls := "IslandCallModel", name := "undo", desc := "()I" } : Jvm.MethodName) prog_15_method_146_code (1 : Nat) (Option.some Jvm.ClassFile.FieldType.int)) ∈ lw_all := lw_g (lw_at lw_m9 50 rfl) rfl
theorem in_X6 : ∀ w ∈ wsX60, w ∈ lw_all := lw_in wsX60 [1451, 1453, 1455, 1457, 1459, 1461, 1463, 1465, 1467, 1469, 1471, 1473, 1475, 1477, 1479, 1481, 1483, 1485, 1487, 1489, 1491, 1493, 1495, 1497, 1499, 1501, 1503, 1505, 1507, 1509, 1511, 1513, 1515, 1517, 1519, 1521, 1523] (by decide +kernel) (by decide +kernel)
