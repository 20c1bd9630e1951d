/-! IslandCall -/
set_option maxRecDepth 100000
def RX0 : String := "IslandCall"
def TX0 : u_T := fun k => match k with
  | 0 => ("IslandCall", "trays", "[LIslandCall$Tray;", true)
  | 1 => ("IslandCall", "tape", "[B", true)
  | 2 => ("IslandCall", "taped", "I", false)
  | 3 => ("IslandCall", "faultKind", "I", false)
  | 4 => ("IslandCall", "faultAt", "I", false)
  | 5 => ("IslandCall", "bad", "LIslandCall$Bad;", true)
  | 6 => ("IslandCall", "refused", "LIslandCall$Refused;", true)
  | 7 => ("IslandCall", "status", "I", false)
  | 8 => ("IslandCall", "above", "J", false)
  | 9 => ("IslandCall", "under", "J", false)
  | 10 => ("IslandCall", "now", "LIslandCall$House;", true)
  | 11 => ("IslandCall", "marks", "[LIslandCall$House;", true)
  | 12 => ("IslandCall", "markMany", "I", false)
  | 13 => ("IslandCall", "aside", "LIslandCall$Boat;", true)
  | 14 => ("IslandCall", "firstMove", "I", false)
  | 15 => ("IslandCall", "chances", "[J", true)
  | 16 => ("IslandCall", "last", "[I", true)
  | _ => ("IslandCall", "hasLived", "Z", false)
def tyX0 : Nat → FieldType := fun k => match k with
  | 0 => .array (.object "IslandCall$Tray")
  | 1 => .array .byte
  | 2 => .int
  | 3 => .int
  | 4 => .int
  | 5 => .object "IslandCall$Bad"
  | 6 => .object "IslandCall$Refused"
  | 7 => .int
  | 8 => .long
  | 9 => .long
  | 10 => .object "IslandCall$House"
  | 11 => .array (.object "IslandCall$House")
  | 12 => .int
  | 13 => .object "IslandCall$Boat"
  | 14 => .int
  | 15 => .array .long
  | 16 => .array .int
  | _ => .boolean
abbrev wsX00 : List Cond := u_ws RX0 TX0 18
set_option maxRecDepth 100000 in
theorem nmX0 : ∀ a, a < 18 → ∀ b, b < 18 → a ≠ b → (TX0 a).2.1 ≠ (TX0 b).2.1 := by decide +kernel
set_option maxRecDepth 100000 in
theorem tyX0_ok : ∀ k, k < 18 → parseFieldDescriptor (TX0 k).2.2.1 = some (tyX0 k) := by decide +kernel
abbrev cX0_init : ByteArray := prog_1_method_7_code
def yX0_init : MethodName := ⟨RX0, "<init>", "()V"⟩
def dkwX0_init_6 : List UInt8 := [181, 0, 73, 177]
abbrev dktX0_init_6 : List UInt8 := dkwX0_init_6 ++ []
def dkwX0_init_5 : List UInt8 := [187, 0, 63, 89, 183, 0, 65, 181, 0, 66, 42, 16, 13, 188, 11, 181, 0, 70, 42, 8, 188, 10]
abbrev dktX0_init_5 : List UInt8 := dkwX0_init_5 ++ dktX0_init_6
def dkwX0_init_4 : List UInt8 := [181, 0, 48, 42, 187, 0, 52, 89, 183, 0, 54, 181, 0, 55, 42, 6, 189, 0, 52, 181, 0, 59, 42]
abbrev dktX0_init_4 : List UInt8 := dkwX0_init_4 ++ dktX0_init_5
def dkwX0_init_3 : List UInt8 := [187, 0, 34, 89, 183, 0, 36, 181, 0, 37, 42, 187, 0, 41, 89, 183, 0, 43, 181, 0, 44, 42, 10]
abbrev dktX0_init_3 : List UInt8 := dkwX0_init_3 ++ dktX0_init_4
def dkwX0_init_2 : List UInt8 := [83, 181, 0, 18, 42, 17, 3, 132, 188, 8, 181, 0, 24, 42, 2, 181, 0, 27, 42, 2, 181, 0, 31, 42]
abbrev dktX0_init_2 : List UInt8 := dkwX0_init_2 ++ dktX0_init_3
def dkwX0_init_1 : List UInt8 := [89, 183, 0, 17, 83, 89, 5, 187, 0, 15, 89, 183, 0, 17, 83, 89, 6, 187, 0, 15, 89, 183, 0, 17]
abbrev dktX0_init_1 : List UInt8 := dkwX0_init_1 ++ dktX0_init_2
def dkwX0_init_0 : List UInt8 := [42, 183, 0, 9, 42, 7, 189, 0, 15, 89, 3, 187, 0, 15, 89, 183, 0, 17, 83, 89, 4, 187, 0, 15]
abbrev dktX0_init_0 : List UInt8 := dkwX0_init_0 ++ dktX0_init_1
theorem dksX0_init_0 : cX0_init.data.toList.drop 0 = dktX0_init_0 := by decide +kernel
theorem dksX0_init_1 : cX0_init.data.toList.drop 24 = dktX0_init_1 := dk_seg dksX0_init_0 24 rfl rfl
theorem dksX0_init_2 : cX0_init.data.toList.drop 48 = dktX0_init_2 := dk_seg dksX0_init_1 24 rfl rfl
theorem dksX0_init_3 : cX0_init.data.toList.drop 72 = dktX0_init_3 := dk_seg dksX0_init_2 24 rfl rfl
theorem dksX0_init_4 : cX0_init.data.toList.drop 95 = dktX0_init_4 := dk_seg dksX0_init_3 23 rfl rfl
theorem dksX0_init_5 : cX0_init.data.toList.drop 118 = dktX0_init_5 := dk_seg dksX0_init_4 23 rfl rfl
theorem dksX0_init_6 : cX0_init.data.toList.drop 140 = dktX0_init_6 := dk_seg dksX0_init_5 22 rfl rfl
theorem dX0_init_0 : decode cX0_init 0 = .ok (.aload_n 0, 1) := dk_42 (dk_at dksX0_init_0 0 rfl rfl)
theorem dX0_init_1 : decode cX0_init 1 = .ok (.invokespecial 9, 3) := dk_183 0 9 (dk_at dksX0_init_0 1 rfl rfl)
theorem dX0_init_4 : decode cX0_init 4 = .ok (.aload_n 0, 1) := dk_42 (dk_at dksX0_init_0 4 rfl rfl)
theorem dX0_init_5 : decode cX0_init 5 = .ok (.iconst 4, 1) := dk_7 (dk_at dksX0_init_0 5 rfl rfl)
theorem dX0_init_6 : decode cX0_init 6 = .ok (.anewarray 15, 3) := dk_189 0 15 (dk_at dksX0_init_0 6 rfl rfl)
theorem dX0_init_9 : decode cX0_init 9 = .ok (.dup, 1) := dk_89 (dk_at dksX0_init_0 9 rfl rfl)
theorem dX0_init_10 : decode cX0_init 10 = .ok (.iconst 0, 1) := dk_3 (dk_at dksX0_init_0 10 rfl rfl)
theorem dX0_init_11 : decode cX0_init 11 = .ok (.new 15, 3) := dk_187 0 15 (dk_at dksX0_init_0 11 rfl rfl)
theorem dX0_init_14 : decode cX0_init 14 = .ok (.dup, 1) := dk_89 (dk_at dksX0_init_0 14 rfl rfl)
theorem dX0_init_15 : decode cX0_init 15 = .ok (.invokespecial 17, 3) := dk_183 0 17 (dk_at dksX0_init_0 15 rfl rfl)
theorem dX0_init_18 : decode cX0_init 18 = .ok (.aastore, 1) := dk_83 (dk_at dksX0_init_0 18 rfl rfl)
theorem dX0_init_19 : decode cX0_init 19 = .ok (.dup, 1) := dk_89 (dk_at dksX0_init_0 19 rfl rfl)
theorem dX0_init_20 : decode cX0_init 20 = .ok (.iconst 1, 1) := dk_4 (dk_at dksX0_init_0 20 rfl rfl)
theorem dX0_init_21 : decode cX0_init 21 = .ok (.new 15, 3) := dk_187 0 15 (dk_at dksX0_init_0 21 rfl rfl)
theorem dX0_init_24 : decode cX0_init 24 = .ok (.dup, 1) := dk_89 (dk_at dksX0_init_1 0 rfl rfl)
theorem dX0_init_25 : decode cX0_init 25 = .ok (.invokespecial 17, 3) := dk_183 0 17 (dk_at dksX0_init_1 1 rfl rfl)
theorem dX0_init_28 : decode cX0_init 28 = .ok (.aastore, 1) := dk_83 (dk_at dksX0_init_1 4 rfl rfl)
theorem dX0_init_29 : decode cX0_init 29 = .ok (.dup, 1) := dk_89 (dk_at dksX0_init_1 5 rfl rfl)
theorem dX0_init_30 : decode cX0_init 30 = .ok (.iconst 2, 1) := dk_5 (dk_at dksX0_init_1 6 rfl rfl)
theorem dX0_init_31 : decode cX0_init 31 = .ok (.new 15, 3) := dk_187 0 15 (dk_at dksX0_init_1 7 rfl rfl)
theorem dX0_init_34 : decode cX0_init 34 = .ok (.dup, 1) := dk_89 (dk_at dksX0_init_1 10 rfl rfl)
theorem dX0_init_35 : decode cX0_init 35 = .ok (.invokespecial 17, 3) := dk_183 0 17 (dk_at dksX0_init_1 11 rfl rfl)
theorem dX0_init_38 : decode cX0_init 38 = .ok (.aastore, 1) := dk_83 (dk_at dksX0_init_1 14 rfl rfl)
theorem dX0_init_39 : decode cX0_init 39 = .ok (.dup, 1) := dk_89 (dk_at dksX0_init_1 15 rfl rfl)
theorem dX0_init_40 : decode cX0_init 40 = .ok (.iconst 3, 1) := dk_6 (dk_at dksX0_init_1 16 rfl rfl)
theorem dX0_init_41 : decode cX0_init 41 = .ok (.new 15, 3) := dk_187 0 15 (dk_at dksX0_init_1 17 rfl rfl)
theorem dX0_init_44 : decode cX0_init 44 = .ok (.dup, 1) := dk_89 (dk_at dksX0_init_1 20 rfl rfl)
theorem dX0_init_45 : decode cX0_init 45 = .ok (.invokespecial 17, 3) := dk_183 0 17 (dk_at dksX0_init_1 21 rfl rfl)
theorem dX0_init_48 : decode cX0_init 48 = .ok (.aastore, 1) := dk_83 (dk_at dksX0_init_2 0 rfl rfl)
theorem dX0_init_49 : decode cX0_init 49 = .ok (.putfield 18, 3) := dk_181 0 18 (dk_at dksX0_init_2 1 rfl rfl)
theorem dX0_init_52 : decode cX0_init 52 = .ok (.aload_n 0, 1) := dk_42 (dk_at dksX0_init_2 4 rfl rfl)
theorem dX0_init_53 : decode cX0_init 53 = .ok (.sipush 900, 3) := dk_17 3 132 (dk_at dksX0_init_2 5 rfl rfl)
theorem dX0_init_56 : decode cX0_init 56 = .ok (.newarray .byte, 2) := dk_188_8 (dk_at dksX0_init_2 8 rfl rfl)
theorem dX0_init_58 : decode cX0_init 58 = .ok (.putfield 24, 3) := dk_181 0 24 (dk_at dksX0_init_2 10 rfl rfl)
theorem dX0_init_61 : decode cX0_init 61 = .ok (.aload_n 0, 1) := dk_42 (dk_at dksX0_init_2 13 rfl rfl)
theorem dX0_init_62 : decode cX0_init 62 = .ok (.iconst (-1), 1) := dk_2 (dk_at dksX0_init_2 14 rfl rfl)
theorem dX0_init_63 : decode cX0_init 63 = .ok (.putfield 27, 3) := dk_181 0 27 (dk_at dksX0_init_2 15 rfl rfl)
theorem dX0_init_66 : decode cX0_init 66 = .ok (.aload_n 0, 1) := dk_42 (dk_at dksX0_init_2 18 rfl rfl)
theorem dX0_init_67 : decode cX0_init 67 = .ok (.iconst (-1), 1) := dk_2 (dk_at dksX0_init_2 19 rfl rfl)
theorem dX0_init_68 : decode cX0_init 68 = .ok (.putfield 31, 3) := dk_181 0 31 (dk_at dksX0_init_2 20 rfl rfl)
theorem dX0_init_71 : decode cX0_init 71 = .ok (.aload_n 0, 1) := dk_42 (dk_at dksX0_init_2 23 rfl rfl)
theorem dX0_init_72 : decode cX0_init 72 = .ok (.new 34, 3) := dk_187 0 34 (dk_at dksX0_init_3 0 rfl rfl)
theorem dX0_init_75 : decode cX0_init 75 = .ok (.dup, 1) := dk_89 (dk_at dksX0_init_3 3 rfl rfl)
theorem dX0_init_76 : decode cX0_init 76 = .ok (.invokespecial 36, 3) := dk_183 0 36 (dk_at dksX0_init_3 4 rfl rfl)
theorem dX0_init_79 : decode cX0_init 79 = .ok (.putfield 37, 3) := dk_181 0 37 (dk_at dksX0_init_3 7 rfl rfl)
theorem dX0_init_82 : decode cX0_init 82 = .ok (.aload_n 0, 1) := dk_42 (dk_at dksX0_init_3 10 rfl rfl)
theorem dX0_init_83 : decode cX0_init 83 = .ok (.new 41, 3) := dk_187 0 41 (dk_at dksX0_init_3 11 rfl rfl)
theorem dX0_init_86 : decode cX0_init 86 = .ok (.dup, 1) := dk_89 (dk_at dksX0_init_3 14 rfl rfl)
theorem dX0_init_87 : decode cX0_init 87 = .ok (.invokespecial 43, 3) := dk_183 0 43 (dk_at dksX0_init_3 15 rfl rfl)
theorem dX0_init_90 : decode cX0_init 90 = .ok (.putfield 44, 3) := dk_181 0 44 (dk_at dksX0_init_3 18 rfl rfl)
theorem dX0_init_93 : decode cX0_init 93 = .ok (.aload_n 0, 1) := dk_42 (dk_at dksX0_init_3 21 rfl rfl)
theorem dX0_init_94 : decode cX0_init 94 = .ok (.lconst 1, 1) := dk_10 (dk_at dksX0_init_3 22 rfl rfl)
theorem dX0_init_95 : decode cX0_init 95 = .ok (.putfield 48, 3) := dk_181 0 48 (dk_at dksX0_init_4 0 rfl rfl)
theorem dX0_init_98 : decode cX0_init 98 = .ok (.aload_n 0, 1) := dk_42 (dk_at dksX0_init_4 3 rfl rfl)
theorem dX0_init_99 : decode cX0_init 99 = .ok (.new 52, 3) := dk_187 0 52 (dk_at dksX0_init_4 4 rfl rfl)
theorem dX0_init_102 : decode cX0_init 102 = .ok (.dup, 1) := dk_89 (dk_at dksX0_init_4 7 rfl rfl)
theorem dX0_init_103 : decode cX0_init 103 = .ok (.invokespecial 54, 3) := dk_183 0 54 (dk_at dksX0_init_4 8 rfl rfl)
theorem dX0_init_106 : decode cX0_init 106 = .ok (.putfield 55, 3) := dk_181 0 55 (dk_at dksX0_init_4 11 rfl rfl)
theorem dX0_init_109 : decode cX0_init 109 = .ok (.aload_n 0, 1) := dk_42 (dk_at dksX0_init_4 14 rfl rfl)
theorem dX0_init_110 : decode cX0_init 110 = .ok (.iconst 3, 1) := dk_6 (dk_at dksX0_init_4 15 rfl rfl)
theorem dX0_init_111 : decode cX0_init 111 = .ok (.anewarray 52, 3) := dk_189 0 52 (dk_at dksX0_init_4 16 rfl rfl)
theorem dX0_init_114 : decode cX0_init 114 = .ok (.putfield 59, 3) := dk_181 0 59 (dk_at dksX0_init_4 19 rfl rfl)
theorem dX0_init_117 : decode cX0_init 117 = .ok (.aload_n 0, 1) := dk_42 (dk_at dksX0_init_4 22 rfl rfl)
theorem dX0_init_118 : decode cX0_init 118 = .ok (.new 63, 3) := dk_187 0 63 (dk_at dksX0_init_5 0 rfl rfl)
theorem dX0_init_121 : decode cX0_init 121 = .ok (.dup, 1) := dk_89 (dk_at dksX0_init_5 3 rfl rfl)
theorem dX0_init_122 : decode cX0_init 122 = .ok (.invokespecial 65, 3) := dk_183 0 65 (dk_at dksX0_init_5 4 rfl rfl)
theorem dX0_init_125 : decode cX0_init 125 = .ok (.putfield 66, 3) := dk_181 0 66 (dk_at dksX0_init_5 7 rfl rfl)
theorem dX0_init_128 : decode cX0_init 128 = .ok (.aload_n 0, 1) := dk_42 (dk_at dksX0_init_5 10 rfl rfl)
theorem dX0_init_129 : decode cX0_init 129 = .ok (.bipush 13, 2) := dk_16 13 (dk_at dksX0_init_5 11 rfl rfl)
theorem dX0_init_131 : decode cX0_init 131 = .ok (.newarray .long, 2) := dk_188_11 (dk_at dksX0_init_5 13 rfl rfl)
theorem dX0_init_133 : decode cX0_init 133 = .ok (.putfield 70, 3) := dk_181 0 70 (dk_at dksX0_init_5 15 rfl rfl)
theorem dX0_init_136 : decode cX0_init 136 = .ok (.aload_n 0, 1) := dk_42 (dk_at dksX0_init_5 18 rfl rfl)
theorem dX0_init_137 : decode cX0_init 137 = .ok (.iconst 5, 1) := dk_8 (dk_at dksX0_init_5 19 rfl rfl)
theorem dX0_init_138 : decode cX0_init 138 = .ok (.newarray .int, 2) := dk_188_10 (dk_at dksX0_init_5 20 rfl rfl)
theorem dX0_init_140 : decode cX0_init 140 = .ok (.putfield 73, 3) := dk_181 0 73 (dk_at dksX0_init_6 0 rfl rfl)
theorem dX0_init_143 : decode cX0_init 143 = .ok (.return_, 1) := dk_177 (dk_at dksX0_init_6 3 rfl rfl)
abbrev cX0_status : ByteArray := prog_1_method_8_code
def yX0_status : MethodName := ⟨RX0, "status", "()I"⟩
theorem dX0_status_0 : decode cX0_status 0 = .ok (.aload_n 0, 1) := by decide +kernel
theorem dX0_status_1 : decode cX0_status 1 = .ok (.getfield 76, 3) := by decide +kernel
theorem dX0_status_4 : decode cX0_status 4 = .ok (.ireturn, 1) := by decide +kernel
abbrev cX0_top : ByteArray := prog_1_method_9_code
def yX0_top : MethodName := ⟨RX0, "top", "()J"⟩
theorem dX0_top_0 : decode cX0_top 0 = .ok (.aload_n 0, 1) := by decide +kernel
theorem dX0_top_1 : decode cX0_top 1 = .ok (.getfield 79, 3) := by decide +kernel
theorem dX0_top_4 : decode cX0_top 4 = .ok (.lreturn, 1) := by decide +kernel
abbrev cX0_bottom : ByteArray := prog_1_method_10_code
def yX0_bottom : MethodName := ⟨RX0, "bottom", "()J"⟩
theorem dX0_bottom_0 : decode cX0_bottom 0 = .ok (.aload_n 0, 1) := by decide +kernel
theorem dX0_bottom_1 : decode cX0_bottom 1 = .ok (.getfield 48, 3) := by decide +kernel
theorem dX0_bottom_4 : decode cX0_bottom 4 = .ok (.lreturn, 1) := by decide +kernel
abbrev cX0_tray : ByteArray := prog_1_method_16_code
def yX0_tray : MethodName := ⟨RX0, "tray", "(III)Z"⟩
def dkwX0_tray_3 : List UInt8 := [182, 0, 114, 172]
abbrev dktX0_tray_3 : List UInt8 := dkwX0_tray_3 ++ []
def dkwX0_tray_2 : List UInt8 := [184, 0, 109, 181, 0, 105, 4, 172, 58, 4, 42, 4, 181, 0, 76, 3, 172, 58, 4, 42, 25, 4]
abbrev dktX0_tray_2 : List UInt8 := dkwX0_tray_2 ++ dktX0_tray_3
def dkwX0_tray_1 : List UInt8 := [29, 16, 60, 163, 0, 7, 4, 167, 0, 4, 3, 4, 182, 0, 101, 42, 180, 0, 18, 27, 50, 28, 29]
abbrev dktX0_tray_1 : List UInt8 := dkwX0_tray_1 ++ dktX0_tray_2
def dkwX0_tray_0 : List UInt8 := [42, 3, 181, 0, 76, 42, 27, 155, 0, 27, 27, 7, 162, 0, 22, 28, 155, 0, 18, 28, 6, 163, 0, 13]
abbrev dktX0_tray_0 : List UInt8 := dkwX0_tray_0 ++ dktX0_tray_1
theorem dksX0_tray_0 : cX0_tray.data.toList.drop 0 = dktX0_tray_0 := by decide +kernel
theorem dksX0_tray_1 : cX0_tray.data.toList.drop 24 = dktX0_tray_1 := dk_seg dksX0_tray_0 24 rfl rfl
theorem dksX0_tray_2 : cX0_tray.data.toList.drop 47 = dktX0_tray_2 := dk_seg dksX0_tray_1 23 rfl rfl
theorem dksX0_tray_3 : cX0_tray.data.toList.drop 69 = dktX0_tray_3 := dk_seg dksX0_tray_2 22 rfl rfl
theorem dX0_tray_0 : decode cX0_tray 0 = .ok (.aload_n 0, 1) := dk_42 (dk_at dksX0_tray_0 0 rfl rfl)
theorem dX0_tray_1 : decode cX0_tray 1 = .ok (.iconst 0, 1) := dk_3 (dk_at dksX0_tray_0 1 rfl rfl)
theorem dX0_tray_2 : decode cX0_tray 2 = .ok (.putfield 76, 3) := dk_181 0 76 (dk_at dksX0_tray_0 2 rfl rfl)
theorem dX0_tray_5 : decode cX0_tray 5 = .ok (.aload_n 0, 1) := dk_42 (dk_at dksX0_tray_0 5 rfl rfl)
theorem dX0_tray_6 : decode cX0_tray 6 = .ok (.iload_n 1, 1) := dk_27 (dk_at dksX0_tray_0 6 rfl rfl)
theorem dX0_tray_7 : decode cX0_tray 7 = .ok (.ifCond .lt 27, 3) := dk_155 0 27 (dk_at dksX0_tray_0 7 rfl rfl)
theorem dX0_tray_10 : decode cX0_tray 10 = .ok (.iload_n 1, 1) := dk_27 (dk_at dksX0_tray_0 10 rfl rfl)
theorem dX0_tray_11 : decode cX0_tray 11 = .ok (.iconst 4, 1) := dk_7 (dk_at dksX0_tray_0 11 rfl rfl)
theorem dX0_tray_12 : decode cX0_tray 12 = .ok (.if_icmp .ge 22, 3) := dk_162 0 22 (dk_at dksX0_tray_0 12 rfl rfl)
theorem dX0_tray_15 : decode cX0_tray 15 = .ok (.iload_n 2, 1) := dk_28 (dk_at dksX0_tray_0 15 rfl rfl)
theorem dX0_tray_16 : decode cX0_tray 16 = .ok (.ifCond .lt 18, 3) := dk_155 0 18 (dk_at dksX0_tray_0 16 rfl rfl)
theorem dX0_tray_19 : decode cX0_tray 19 = .ok (.iload_n 2, 1) := dk_28 (dk_at dksX0_tray_0 19 rfl rfl)
theorem dX0_tray_20 : decode cX0_tray 20 = .ok (.iconst 3, 1) := dk_6 (dk_at dksX0_tray_0 20 rfl rfl)
theorem dX0_tray_21 : decode cX0_tray 21 = .ok (.if_icmp .gt 13, 3) := dk_163 0 13 (dk_at dksX0_tray_0 21 rfl rfl)
theorem dX0_tray_24 : decode cX0_tray 24 = .ok (.iload_n 3, 1) := dk_29 (dk_at dksX0_tray_1 0 rfl rfl)
theorem dX0_tray_25 : decode cX0_tray 25 = .ok (.bipush 60, 2) := dk_16 60 (dk_at dksX0_tray_1 1 rfl rfl)
theorem dX0_tray_27 : decode cX0_tray 27 = .ok (.if_icmp .gt 7, 3) := dk_163 0 7 (dk_at dksX0_tray_1 3 rfl rfl)
theorem dX0_tray_30 : decode cX0_tray 30 = .ok (.iconst 1, 1) := dk_4 (dk_at dksX0_tray_1 6 rfl rfl)
theorem dX0_tray_31 : decode cX0_tray 31 = .ok (.goto 4, 3) := dk_167 0 4 (dk_at dksX0_tray_1 7 rfl rfl)
theorem dX0_tray_34 : decode cX0_tray 34 = .ok (.iconst 0, 1) := dk_3 (dk_at dksX0_tray_1 10 rfl rfl)
theorem dX0_tray_35 : decode cX0_tray 35 = .ok (.iconst 1, 1) := dk_4 (dk_at dksX0_tray_1 11 rfl rfl)
theorem dX0_tray_36 : decode cX0_tray 36 = .ok (.invokevirtual 101, 3) := dk_182 0 101 (dk_at dksX0_tray_1 12 rfl rfl)
theorem dX0_tray_39 : decode cX0_tray 39 = .ok (.aload_n 0, 1) := dk_42 (dk_at dksX0_tray_1 15 rfl rfl)
theorem dX0_tray_40 : decode cX0_tray 40 = .ok (.getfield 18, 3) := dk_180 0 18 (dk_at dksX0_tray_1 16 rfl rfl)
theorem dX0_tray_43 : decode cX0_tray 43 = .ok (.iload_n 1, 1) := dk_27 (dk_at dksX0_tray_1 19 rfl rfl)
theorem dX0_tray_44 : decode cX0_tray 44 = .ok (.aaload, 1) := dk_50 (dk_at dksX0_tray_1 20 rfl rfl)
theorem dX0_tray_45 : decode cX0_tray 45 = .ok (.iload_n 2, 1) := dk_28 (dk_at dksX0_tray_1 21 rfl rfl)
theorem dX0_tray_46 : decode cX0_tray 46 = .ok (.iload_n 3, 1) := dk_29 (dk_at dksX0_tray_1 22 rfl rfl)
theorem dX0_tray_47 : decode cX0_tray 47 = .ok (.invokestatic 109, 3) := dk_184 0 109 (dk_at dksX0_tray_2 0 rfl rfl)
theorem dX0_tray_50 : decode cX0_tray 50 = .ok (.putfield 105, 3) := dk_181 0 105 (dk_at dksX0_tray_2 3 rfl rfl)
theorem dX0_tray_53 : decode cX0_tray 53 = .ok (.iconst 1, 1) := dk_4 (dk_at dksX0_tray_2 6 rfl rfl)
theorem dX0_tray_54 : decode cX0_tray 54 = .ok (.ireturn, 1) := dk_172 (dk_at dksX0_tray_2 7 rfl rfl)
theorem dX0_tray_55 : decode cX0_tray 55 = .ok (.astore 4, 2) := dk_58 4 (dk_at dksX0_tray_2 8 rfl rfl)
theorem dX0_tray_57 : decode cX0_tray 57 = .ok (.aload_n 0, 1) := dk_42 (dk_at dksX0_tray_2 10 rfl rfl)
theorem dX0_tray_58 : decode cX0_tray 58 = .ok (.iconst 1, 1) := dk_4 (dk_at dksX0_tray_2 11 rfl rfl)
theorem dX0_tray_59 : decode cX0_tray 59 = .ok (.putfield 76, 3) := dk_181 0 76 (dk_at dksX0_tray_2 12 rfl rfl)
theorem dX0_tray_62 : decode cX0_tray 62 = .ok (.iconst 0, 1) := dk_3 (dk_at dksX0_tray_2 15 rfl rfl)
theorem dX0_tray_63 : decode cX0_tray 63 = .ok (.ireturn, 1) := dk_172 (dk_at dksX0_tray_2 16 rfl rfl)
theorem dX0_tray_64 : decode cX0_tray 64 = .ok (.astore 4, 2) := dk_58 4 (dk_at dksX0_tray_2 17 rfl rfl)
theorem dX0_tray_66 : decode cX0_tray 66 = .ok (.aload_n 0, 1) := dk_42 (dk_at dksX0_tray_2 19 rfl rfl)
theorem dX0_tray_67 : decode cX0_tray 67 = .ok (.aload 4, 2) := dk_25 4 (dk_at dksX0_tray_2 20 rfl rfl)
theorem dX0_tray_69 : decode cX0_tray 69 = .ok (.invokevirtual 114, 3) := dk_182 0 114 (dk_at dksX0_tray_3 0 rfl rfl)
theorem dX0_tray_72 : decode cX0_tray 72 = .ok (.ireturn, 1) := dk_172 (dk_at dksX0_tray_3 3 rfl rfl)
abbrev cX0_want : ByteArray := prog_1_method_11_code
def yX0_want : MethodName := ⟨RX0, "want", "(ZI)V"⟩
def dkwX0_want_0 : List UInt8 := [27, 154, 0, 12, 42, 180, 0, 44, 28, 182, 0, 82, 191, 177]
abbrev dktX0_want_0 : List UInt8 := dkwX0_want_0 ++ []
theorem dksX0_want_0 : cX0_want.data.toList.drop 0 = dktX0_want_0 := by decide +kernel
theorem dX0_want_0 : decode cX0_want 0 = .ok (.iload_n 1, 1) := dk_27 (dk_at dksX0_want_0 0 rfl rfl)
theorem dX0_want_1 : decode cX0_want 1 = .ok (.ifCond .ne 12, 3) := dk_154 0 12 (dk_at dksX0_want_0 1 rfl rfl)
theorem dX0_want_4 : decode cX0_want 4 = .ok (.aload_n 0, 1) := dk_42 (dk_at dksX0_want_0 4 rfl rfl)
theorem dX0_want_5 : decode cX0_want 5 = .ok (.getfield 44, 3) := dk_180 0 44 (dk_at dksX0_want_0 5 rfl rfl)
theorem dX0_want_8 : decode cX0_want 8 = .ok (.iload_n 2, 1) := dk_28 (dk_at dksX0_want_0 8 rfl rfl)
theorem dX0_want_9 : decode cX0_want 9 = .ok (.invokevirtual 82, 3) := dk_182 0 82 (dk_at dksX0_want_0 9 rfl rfl)
theorem dX0_want_12 : decode cX0_want 12 = .ok (.athrow, 1) := dk_191 (dk_at dksX0_want_0 12 rfl rfl)
theorem dX0_want_13 : decode cX0_want 13 = .ok (.return_, 1) := dk_177 (dk_at dksX0_want_0 13 rfl rfl)
abbrev cX0_row : ByteArray := prog_1_method_1_code
def yX0_row : MethodName := ⟨RX0, "row", "(II)Ljava/lang/Object;"⟩
def dkwX0_row_1 : List UInt8 := [160, 0, 9, 27, 188, 10, 167, 0, 6, 27, 188, 11, 176]
abbrev dktX0_row_1 : List UInt8 := dkwX0_row_1 ++ []
def dkwX0_row_0 : List UInt8 := [26, 154, 0, 9, 27, 188, 8, 167, 0, 28, 26, 4, 160, 0, 9, 27, 188, 9, 167, 0, 17, 26, 5]
abbrev dktX0_row_0 : List UInt8 := dkwX0_row_0 ++ dktX0_row_1
theorem dksX0_row_0 : cX0_row.data.toList.drop 0 = dktX0_row_0 := by decide +kernel
theorem dksX0_row_1 : cX0_row.data.toList.drop 23 = dktX0_row_1 := dk_seg dksX0_row_0 23 rfl rfl
theorem dX0_row_0 : decode cX0_row 0 = .ok (.iload_n 0, 1) := dk_26 (dk_at dksX0_row_0 0 rfl rfl)
theorem dX0_row_1 : decode cX0_row 1 = .ok (.ifCond .ne 9, 3) := dk_154 0 9 (dk_at dksX0_row_0 1 rfl rfl)
theorem dX0_row_4 : decode cX0_row 4 = .ok (.iload_n 1, 1) := dk_27 (dk_at dksX0_row_0 4 rfl rfl)
theorem dX0_row_5 : decode cX0_row 5 = .ok (.newarray .byte, 2) := dk_188_8 (dk_at dksX0_row_0 5 rfl rfl)
theorem dX0_row_7 : decode cX0_row 7 = .ok (.goto 28, 3) := dk_167 0 28 (dk_at dksX0_row_0 7 rfl rfl)
theorem dX0_row_10 : decode cX0_row 10 = .ok (.iload_n 0, 1) := dk_26 (dk_at dksX0_row_0 10 rfl rfl)
theorem dX0_row_11 : decode cX0_row 11 = .ok (.iconst 1, 1) := dk_4 (dk_at dksX0_row_0 11 rfl rfl)
theorem dX0_row_12 : decode cX0_row 12 = .ok (.if_icmp .ne 9, 3) := dk_160 0 9 (dk_at dksX0_row_0 12 rfl rfl)
theorem dX0_row_15 : decode cX0_row 15 = .ok (.iload_n 1, 1) := dk_27 (dk_at dksX0_row_0 15 rfl rfl)
theorem dX0_row_16 : decode cX0_row 16 = .ok (.newarray .short, 2) := dk_188_9 (dk_at dksX0_row_0 16 rfl rfl)
theorem dX0_row_18 : decode cX0_row 18 = .ok (.goto 17, 3) := dk_167 0 17 (dk_at dksX0_row_0 18 rfl rfl)
theorem dX0_row_21 : decode cX0_row 21 = .ok (.iload_n 0, 1) := dk_26 (dk_at dksX0_row_0 21 rfl rfl)
theorem dX0_row_22 : decode cX0_row 22 = .ok (.iconst 2, 1) := dk_5 (dk_at dksX0_row_0 22 rfl rfl)
theorem dX0_row_23 : decode cX0_row 23 = .ok (.if_icmp .ne 9, 3) := dk_160 0 9 (dk_at dksX0_row_1 0 rfl rfl)
theorem dX0_row_26 : decode cX0_row 26 = .ok (.iload_n 1, 1) := dk_27 (dk_at dksX0_row_1 3 rfl rfl)
theorem dX0_row_27 : decode cX0_row 27 = .ok (.newarray .int, 2) := dk_188_10 (dk_at dksX0_row_1 4 rfl rfl)
theorem dX0_row_29 : decode cX0_row 29 = .ok (.goto 6, 3) := dk_167 0 6 (dk_at dksX0_row_1 6 rfl rfl)
theorem dX0_row_32 : decode cX0_row 32 = .ok (.iload_n 1, 1) := dk_27 (dk_at dksX0_row_1 9 rfl rfl)
theorem dX0_row_33 : decode cX0_row 33 = .ok (.newarray .long, 2) := dk_188_11 (dk_at dksX0_row_1 10 rfl rfl)
theorem dX0_row_35 : decode cX0_row 35 = .ok (.areturn, 1) := dk_176 (dk_at dksX0_row_1 12 rfl rfl)
abbrev cX0_no : ByteArray := prog_1_method_13_code
def yX0_no : MethodName := ⟨RX0, "no", "(LIslandCall$Refused;)Z"⟩
def dkwX0_no_0 : List UInt8 := [42, 43, 180, 0, 86, 181, 0, 76, 3, 172]
abbrev dktX0_no_0 : List UInt8 := dkwX0_no_0 ++ []
theorem dksX0_no_0 : cX0_no.data.toList.drop 0 = dktX0_no_0 := by decide +kernel
theorem dX0_no_0 : decode cX0_no 0 = .ok (.aload_n 0, 1) := dk_42 (dk_at dksX0_no_0 0 rfl rfl)
theorem dX0_no_1 : decode cX0_no 1 = .ok (.aload_n 1, 1) := dk_43 (dk_at dksX0_no_0 1 rfl rfl)
theorem dX0_no_2 : decode cX0_no 2 = .ok (.getfield 86, 3) := dk_180 0 86 (dk_at dksX0_no_0 2 rfl rfl)
theorem dX0_no_5 : decode cX0_no 5 = .ok (.putfield 76, 3) := dk_181 0 76 (dk_at dksX0_no_0 5 rfl rfl)
theorem dX0_no_8 : decode cX0_no 8 = .ok (.iconst 0, 1) := dk_3 (dk_at dksX0_no_0 8 rfl rfl)
theorem dX0_no_9 : decode cX0_no 9 = .ok (.ireturn, 1) := dk_172 (dk_at dksX0_no_0 9 rfl rfl)
abbrev cX0_write : ByteArray := prog_1_method_17_code
def yX0_write : MethodName := ⟨RX0, "write", "(IIJ)Z"⟩
def dkwX0_write_1 : List UInt8 := [3, 172, 58, 5, 42, 25, 5, 182, 0, 114, 172]
abbrev dktX0_write_1 : List UInt8 := dkwX0_write_1 ++ []
def dkwX0_write_0 : List UInt8 := [42, 3, 181, 0, 76, 42, 27, 182, 0, 118, 28, 33, 184, 0, 122, 4, 172, 58, 5, 42, 6, 181, 0, 76]
abbrev dktX0_write_0 : List UInt8 := dkwX0_write_0 ++ dktX0_write_1
theorem dksX0_write_0 : cX0_write.data.toList.drop 0 = dktX0_write_0 := by decide +kernel
theorem dksX0_write_1 : cX0_write.data.toList.drop 24 = dktX0_write_1 := dk_seg dksX0_write_0 24 rfl rfl
theorem dX0_write_0 : decode cX0_write 0 = .ok (.aload_n 0, 1) := dk_42 (dk_at dksX0_write_0 0 rfl rfl)
theorem dX0_write_1 : decode cX0_write 1 = .ok (.iconst 0, 1) := dk_3 (dk_at dksX0_write_0 1 rfl rfl)
theorem dX0_write_2 : decode cX0_write 2 = .ok (.putfield 76, 3) := dk_181 0 76 (dk_at dksX0_write_0 2 rfl rfl)
theorem dX0_write_5 : decode cX0_write 5 = .ok (.aload_n 0, 1) := dk_42 (dk_at dksX0_write_0 5 rfl rfl)
theorem dX0_write_6 : decode cX0_write 6 = .ok (.iload_n 1, 1) := dk_27 (dk_at dksX0_write_0 6 rfl rfl)
theorem dX0_write_7 : decode cX0_write 7 = .ok (.invokevirtual 118, 3) := dk_182 0 118 (dk_at dksX0_write_0 7 rfl rfl)
theorem dX0_write_10 : decode cX0_write 10 = .ok (.iload_n 2, 1) := dk_28 (dk_at dksX0_write_0 10 rfl rfl)
theorem dX0_write_11 : decode cX0_write 11 = .ok (.lload_n 3, 1) := dk_33 (dk_at dksX0_write_0 11 rfl rfl)
theorem dX0_write_12 : decode cX0_write 12 = .ok (.invokestatic 122, 3) := dk_184 0 122 (dk_at dksX0_write_0 12 rfl rfl)
theorem dX0_write_15 : decode cX0_write 15 = .ok (.iconst 1, 1) := dk_4 (dk_at dksX0_write_0 15 rfl rfl)
theorem dX0_write_16 : decode cX0_write 16 = .ok (.ireturn, 1) := dk_172 (dk_at dksX0_write_0 16 rfl rfl)
theorem dX0_write_17 : decode cX0_write 17 = .ok (.astore 5, 2) := dk_58 5 (dk_at dksX0_write_0 17 rfl rfl)
theorem dX0_write_19 : decode cX0_write 19 = .ok (.aload_n 0, 1) := dk_42 (dk_at dksX0_write_0 19 rfl rfl)
theorem dX0_write_20 : decode cX0_write 20 = .ok (.iconst 3, 1) := dk_6 (dk_at dksX0_write_0 20 rfl rfl)
theorem dX0_write_21 : decode cX0_write 21 = .ok (.putfield 76, 3) := dk_181 0 76 (dk_at dksX0_write_0 21 rfl rfl)
theorem dX0_write_24 : decode cX0_write 24 = .ok (.iconst 0, 1) := dk_3 (dk_at dksX0_write_1 0 rfl rfl)
theorem dX0_write_25 : decode cX0_write 25 = .ok (.ireturn, 1) := dk_172 (dk_at dksX0_write_1 1 rfl rfl)
theorem dX0_write_26 : decode cX0_write 26 = .ok (.astore 5, 2) := dk_58 5 (dk_at dksX0_write_1 2 rfl rfl)
theorem dX0_write_28 : decode cX0_write 28 = .ok (.aload_n 0, 1) := dk_42 (dk_at dksX0_write_1 4 rfl rfl)
theorem dX0_write_29 : decode cX0_write 29 = .ok (.aload 5, 2) := dk_25 5 (dk_at dksX0_write_1 5 rfl rfl)
theorem dX0_write_31 : decode cX0_write 31 = .ok (.invokevirtual 114, 3) := dk_182 0 114 (dk_at dksX0_write_1 7 rfl rfl)
theorem dX0_write_34 : decode cX0_write 34 = .ok (.ireturn, 1) := dk_172 (dk_at dksX0_write_1 10 rfl rfl)
abbrev cX0_on : ByteArray := prog_1_method_15_code
def yX0_on : MethodName := ⟨RX0, "on", "(I)Ljava/lang/Object;"⟩
def dkwX0_on_2 : List UInt8 := [180, 0, 105, 176]
abbrev dktX0_on_2 : List UInt8 := dkwX0_on_2 ++ []
def dkwX0_on_1 : List UInt8 := [27, 50, 180, 0, 105, 198, 0, 7, 4, 167, 0, 4, 3, 5, 182, 0, 101, 42, 180, 0, 18, 27, 50]
abbrev dktX0_on_1 : List UInt8 := dkwX0_on_1 ++ dktX0_on_2
def dkwX0_on_0 : List UInt8 := [42, 27, 155, 0, 12, 27, 7, 162, 0, 7, 4, 167, 0, 4, 3, 4, 182, 0, 101, 42, 42, 180, 0, 18]
abbrev dktX0_on_0 : List UInt8 := dkwX0_on_0 ++ dktX0_on_1
theorem dksX0_on_0 : cX0_on.data.toList.drop 0 = dktX0_on_0 := by decide +kernel
theorem dksX0_on_1 : cX0_on.data.toList.drop 24 = dktX0_on_1 := dk_seg dksX0_on_0 24 rfl rfl
theorem dksX0_on_2 : cX0_on.data.toList.drop 47 = dktX0_on_2 := dk_seg dksX0_on_1 23 rfl rfl
theorem dX0_on_0 : decode cX0_on 0 = .ok (.aload_n 0, 1) := dk_42 (dk_at dksX0_on_0 0 rfl rfl)
theorem dX0_on_1 : decode cX0_on 1 = .ok (.iload_n 1, 1) := dk_27 (dk_at dksX0_on_0 1 rfl rfl)
theorem dX0_on_2 : decode cX0_on 2 = .ok (.ifCond .lt 12, 3) := dk_155 0 12 (dk_at dksX0_on_0 2 rfl rfl)
theorem dX0_on_5 : decode cX0_on 5 = .ok (.iload_n 1, 1) := dk_27 (dk_at dksX0_on_0 5 rfl rfl)
theorem dX0_on_6 : decode cX0_on 6 = .ok (.iconst 4, 1) := dk_7 (dk_at dksX0_on_0 6 rfl rfl)
theorem dX0_on_7 : decode cX0_on 7 = .ok (.if_icmp .ge 7, 3) := dk_162 0 7 (dk_at dksX0_on_0 7 rfl rfl)
theorem dX0_on_10 : decode cX0_on 10 = .ok (.iconst 1, 1) := dk_4 (dk_at dksX0_on_0 10 rfl rfl)
theorem dX0_on_11 : decode cX0_on 11 = .ok (.goto 4, 3) := dk_167 0 4 (dk_at dksX0_on_0 11 rfl rfl)
theorem dX0_on_14 : decode cX0_on 14 = .ok (.iconst 0, 1) := dk_3 (dk_at dksX0_on_0 14 rfl rfl)
theorem dX0_on_15 : decode cX0_on 15 = .ok (.iconst 1, 1) := dk_4 (dk_at dksX0_on_0 15 rfl rfl)
theorem dX0_on_16 : decode cX0_on 16 = .ok (.invokevirtual 101, 3) := dk_182 0 101 (dk_at dksX0_on_0 16 rfl rfl)
theorem dX0_on_19 : decode cX0_on 19 = .ok (.aload_n 0, 1) := dk_42 (dk_at dksX0_on_0 19 rfl rfl)
theorem dX0_on_20 : decode cX0_on 20 = .ok (.aload_n 0, 1) := dk_42 (dk_at dksX0_on_0 20 rfl rfl)
theorem dX0_on_21 : decode cX0_on 21 = .ok (.getfield 18, 3) := dk_180 0 18 (dk_at dksX0_on_0 21 rfl rfl)
theorem dX0_on_24 : decode cX0_on 24 = .ok (.iload_n 1, 1) := dk_27 (dk_at dksX0_on_1 0 rfl rfl)
theorem dX0_on_25 : decode cX0_on 25 = .ok (.aaload, 1) := dk_50 (dk_at dksX0_on_1 1 rfl rfl)
theorem dX0_on_26 : decode cX0_on 26 = .ok (.getfield 105, 3) := dk_180 0 105 (dk_at dksX0_on_1 2 rfl rfl)
theorem dX0_on_29 : decode cX0_on 29 = .ok (.ifnull 7, 3) := dk_198 0 7 (dk_at dksX0_on_1 5 rfl rfl)
theorem dX0_on_32 : decode cX0_on 32 = .ok (.iconst 1, 1) := dk_4 (dk_at dksX0_on_1 8 rfl rfl)
theorem dX0_on_33 : decode cX0_on 33 = .ok (.goto 4, 3) := dk_167 0 4 (dk_at dksX0_on_1 9 rfl rfl)
theorem dX0_on_36 : decode cX0_on 36 = .ok (.iconst 0, 1) := dk_3 (dk_at dksX0_on_1 12 rfl rfl)
theorem dX0_on_37 : decode cX0_on 37 = .ok (.iconst 2, 1) := dk_5 (dk_at dksX0_on_1 13 rfl rfl)
theorem dX0_on_38 : decode cX0_on 38 = .ok (.invokevirtual 101, 3) := dk_182 0 101 (dk_at dksX0_on_1 14 rfl rfl)
theorem dX0_on_41 : decode cX0_on 41 = .ok (.aload_n 0, 1) := dk_42 (dk_at dksX0_on_1 17 rfl rfl)
theorem dX0_on_42 : decode cX0_on 42 = .ok (.getfield 18, 3) := dk_180 0 18 (dk_at dksX0_on_1 18 rfl rfl)
theorem dX0_on_45 : decode cX0_on 45 = .ok (.iload_n 1, 1) := dk_27 (dk_at dksX0_on_1 21 rfl rfl)
theorem dX0_on_46 : decode cX0_on 46 = .ok (.aaload, 1) := dk_50 (dk_at dksX0_on_1 22 rfl rfl)
theorem dX0_on_47 : decode cX0_on 47 = .ok (.getfield 105, 3) := dk_180 0 105 (dk_at dksX0_on_2 0 rfl rfl)
theorem dX0_on_50 : decode cX0_on 50 = .ok (.areturn, 1) := dk_176 (dk_at dksX0_on_2 3 rfl rfl)
abbrev cX0_put : ByteArray := prog_1_method_5_code
def yX0_put : MethodName := ⟨RX0, "put", "(Ljava/lang/Object;IJ)V"⟩
def dkwX0_put_3 : List UInt8 := [192, 0, 7, 27, 32, 80, 177]
abbrev dktX0_put_3 : List UInt8 := dkwX0_put_3 ++ []
def dkwX0_put_2 : List UInt8 := [193, 0, 5, 153, 0, 18, 42, 192, 0, 5, 58, 6, 25, 6, 27, 32, 136, 79, 167, 0, 10, 42]
abbrev dktX0_put_2 : List UInt8 := dkwX0_put_2 ++ dktX0_put_3
def dkwX0_put_1 : List UInt8 := [193, 0, 3, 153, 0, 19, 42, 192, 0, 3, 58, 5, 25, 5, 27, 32, 136, 147, 86, 167, 0, 32, 42]
abbrev dktX0_put_1 : List UInt8 := dkwX0_put_1 ++ dktX0_put_2
def dkwX0_put_0 : List UInt8 := [42, 193, 0, 1, 153, 0, 19, 42, 192, 0, 1, 58, 4, 25, 4, 27, 32, 136, 145, 84, 167, 0, 55, 42]
abbrev dktX0_put_0 : List UInt8 := dkwX0_put_0 ++ dktX0_put_1
theorem dksX0_put_0 : cX0_put.data.toList.drop 0 = dktX0_put_0 := by decide +kernel
theorem dksX0_put_1 : cX0_put.data.toList.drop 24 = dktX0_put_1 := dk_seg dksX0_put_0 24 rfl rfl
theorem dksX0_put_2 : cX0_put.data.toList.drop 47 = dktX0_put_2 := dk_seg dksX0_put_1 23 rfl rfl
theorem dksX0_put_3 : cX0_put.data.toList.drop 69 = dktX0_put_3 := dk_seg dksX0_put_2 22 rfl rfl
theorem dX0_put_0 : decode cX0_put 0 = .ok (.aload_n 0, 1) := dk_42 (dk_at dksX0_put_0 0 rfl rfl)
theorem dX0_put_1 : decode cX0_put 1 = .ok (.instanceof 1, 3) := dk_193 0 1 (dk_at dksX0_put_0 1 rfl rfl)
theorem dX0_put_4 : decode cX0_put 4 = .ok (.ifCond .eq 19, 3) := dk_153 0 19 (dk_at dksX0_put_0 4 rfl rfl)
theorem dX0_put_7 : decode cX0_put 7 = .ok (.aload_n 0, 1) := dk_42 (dk_at dksX0_put_0 7 rfl rfl)
theorem dX0_put_8 : decode cX0_put 8 = .ok (.checkcast 1, 3) := dk_192 0 1 (dk_at dksX0_put_0 8 rfl rfl)
theorem dX0_put_11 : decode cX0_put 11 = .ok (.astore 4, 2) := dk_58 4 (dk_at dksX0_put_0 11 rfl rfl)
theorem dX0_put_13 : decode cX0_put 13 = .ok (.aload 4, 2) := dk_25 4 (dk_at dksX0_put_0 13 rfl rfl)
theorem dX0_put_15 : decode cX0_put 15 = .ok (.iload_n 1, 1) := dk_27 (dk_at dksX0_put_0 15 rfl rfl)
theorem dX0_put_16 : decode cX0_put 16 = .ok (.lload_n 2, 1) := dk_32 (dk_at dksX0_put_0 16 rfl rfl)
theorem dX0_put_17 : decode cX0_put 17 = .ok (.l2i, 1) := dk_136 (dk_at dksX0_put_0 17 rfl rfl)
theorem dX0_put_18 : decode cX0_put 18 = .ok (.i2b, 1) := dk_145 (dk_at dksX0_put_0 18 rfl rfl)
theorem dX0_put_19 : decode cX0_put 19 = .ok (.bastore, 1) := dk_84 (dk_at dksX0_put_0 19 rfl rfl)
theorem dX0_put_20 : decode cX0_put 20 = .ok (.goto 55, 3) := dk_167 0 55 (dk_at dksX0_put_0 20 rfl rfl)
theorem dX0_put_23 : decode cX0_put 23 = .ok (.aload_n 0, 1) := dk_42 (dk_at dksX0_put_0 23 rfl rfl)
theorem dX0_put_24 : decode cX0_put 24 = .ok (.instanceof 3, 3) := dk_193 0 3 (dk_at dksX0_put_1 0 rfl rfl)
theorem dX0_put_27 : decode cX0_put 27 = .ok (.ifCond .eq 19, 3) := dk_153 0 19 (dk_at dksX0_put_1 3 rfl rfl)
theorem dX0_put_30 : decode cX0_put 30 = .ok (.aload_n 0, 1) := dk_42 (dk_at dksX0_put_1 6 rfl rfl)
theorem dX0_put_31 : decode cX0_put 31 = .ok (.checkcast 3, 3) := dk_192 0 3 (dk_at dksX0_put_1 7 rfl rfl)
theorem dX0_put_34 : decode cX0_put 34 = .ok (.astore 5, 2) := dk_58 5 (dk_at dksX0_put_1 10 rfl rfl)
theorem dX0_put_36 : decode cX0_put 36 = .ok (.aload 5, 2) := dk_25 5 (dk_at dksX0_put_1 12 rfl rfl)
theorem dX0_put_38 : decode cX0_put 38 = .ok (.iload_n 1, 1) := dk_27 (dk_at dksX0_put_1 14 rfl rfl)
theorem dX0_put_39 : decode cX0_put 39 = .ok (.lload_n 2, 1) := dk_32 (dk_at dksX0_put_1 15 rfl rfl)
theorem dX0_put_40 : decode cX0_put 40 = .ok (.l2i, 1) := dk_136 (dk_at dksX0_put_1 16 rfl rfl)
theorem dX0_put_41 : decode cX0_put 41 = .ok (.i2s, 1) := dk_147 (dk_at dksX0_put_1 17 rfl rfl)
theorem dX0_put_42 : decode cX0_put 42 = .ok (.sastore, 1) := dk_86 (dk_at dksX0_put_1 18 rfl rfl)
theorem dX0_put_43 : decode cX0_put 43 = .ok (.goto 32, 3) := dk_167 0 32 (dk_at dksX0_put_1 19 rfl rfl)
theorem dX0_put_46 : decode cX0_put 46 = .ok (.aload_n 0, 1) := dk_42 (dk_at dksX0_put_1 22 rfl rfl)
theorem dX0_put_47 : decode cX0_put 47 = .ok (.instanceof 5, 3) := dk_193 0 5 (dk_at dksX0_put_2 0 rfl rfl)
theorem dX0_put_50 : decode cX0_put 50 = .ok (.ifCond .eq 18, 3) := dk_153 0 18 (dk_at dksX0_put_2 3 rfl rfl)
theorem dX0_put_53 : decode cX0_put 53 = .ok (.aload_n 0, 1) := dk_42 (dk_at dksX0_put_2 6 rfl rfl)
theorem dX0_put_54 : decode cX0_put 54 = .ok (.checkcast 5, 3) := dk_192 0 5 (dk_at dksX0_put_2 7 rfl rfl)
theorem dX0_put_57 : decode cX0_put 57 = .ok (.astore 6, 2) := dk_58 6 (dk_at dksX0_put_2 10 rfl rfl)
theorem dX0_put_59 : decode cX0_put 59 = .ok (.aload 6, 2) := dk_25 6 (dk_at dksX0_put_2 12 rfl rfl)
theorem dX0_put_61 : decode cX0_put 61 = .ok (.iload_n 1, 1) := dk_27 (dk_at dksX0_put_2 14 rfl rfl)
theorem dX0_put_62 : decode cX0_put 62 = .ok (.lload_n 2, 1) := dk_32 (dk_at dksX0_put_2 15 rfl rfl)
theorem dX0_put_63 : decode cX0_put 63 = .ok (.l2i, 1) := dk_136 (dk_at dksX0_put_2 16 rfl rfl)
theorem dX0_put_64 : decode cX0_put 64 = .ok (.iastore, 1) := dk_79 (dk_at dksX0_put_2 17 rfl rfl)
theorem dX0_put_65 : decode cX0_put 65 = .ok (.goto 10, 3) := dk_167 0 10 (dk_at dksX0_put_2 18 rfl rfl)
theorem dX0_put_68 : decode cX0_put 68 = .ok (.aload_n 0, 1) := dk_42 (dk_at dksX0_put_2 21 rfl rfl)
theorem dX0_put_69 : decode cX0_put 69 = .ok (.checkcast 7, 3) := dk_192 0 7 (dk_at dksX0_put_3 0 rfl rfl)
theorem dX0_put_72 : decode cX0_put 72 = .ok (.iload_n 1, 1) := dk_27 (dk_at dksX0_put_3 3 rfl rfl)
theorem dX0_put_73 : decode cX0_put 73 = .ok (.lload_n 2, 1) := dk_32 (dk_at dksX0_put_3 4 rfl rfl)
theorem dX0_put_74 : decode cX0_put 74 = .ok (.lastore, 1) := dk_80 (dk_at dksX0_put_3 5 rfl rfl)
theorem dX0_put_75 : decode cX0_put 75 = .ok (.return_, 1) := dk_177 (dk_at dksX0_put_3 6 rfl rfl)
abbrev cX0_read : ByteArray := prog_1_method_18_code
def yX0_read : MethodName := ⟨RX0, "read", "(II)J"⟩
def dkwX0_read_1 : List UInt8 := [173, 78, 42, 45, 182, 0, 134, 133, 173]
abbrev dktX0_read_1 : List UInt8 := dkwX0_read_1 ++ []
def dkwX0_read_0 : List UInt8 := [42, 3, 181, 0, 76, 42, 27, 182, 0, 118, 28, 184, 0, 128, 173, 78, 42, 6, 181, 0, 76, 20, 0, 132]
abbrev dktX0_read_0 : List UInt8 := dkwX0_read_0 ++ dktX0_read_1
theorem dksX0_read_0 : cX0_read.data.toList.drop 0 = dktX0_read_0 := by decide +kernel
theorem dksX0_read_1 : cX0_read.data.toList.drop 24 = dktX0_read_1 := dk_seg dksX0_read_0 24 rfl rfl
theorem dX0_read_0 : decode cX0_read 0 = .ok (.aload_n 0, 1) := dk_42 (dk_at dksX0_read_0 0 rfl rfl)
theorem dX0_read_1 : decode cX0_read 1 = .ok (.iconst 0, 1) := dk_3 (dk_at dksX0_read_0 1 rfl rfl)
theorem dX0_read_2 : decode cX0_read 2 = .ok (.putfield 76, 3) := dk_181 0 76 (dk_at dksX0_read_0 2 rfl rfl)
theorem dX0_read_5 : decode cX0_read 5 = .ok (.aload_n 0, 1) := dk_42 (dk_at dksX0_read_0 5 rfl rfl)
theorem dX0_read_6 : decode cX0_read 6 = .ok (.iload_n 1, 1) := dk_27 (dk_at dksX0_read_0 6 rfl rfl)
theorem dX0_read_7 : decode cX0_read 7 = .ok (.invokevirtual 118, 3) := dk_182 0 118 (dk_at dksX0_read_0 7 rfl rfl)
theorem dX0_read_10 : decode cX0_read 10 = .ok (.iload_n 2, 1) := dk_28 (dk_at dksX0_read_0 10 rfl rfl)
theorem dX0_read_11 : decode cX0_read 11 = .ok (.invokestatic 128, 3) := dk_184 0 128 (dk_at dksX0_read_0 11 rfl rfl)
theorem dX0_read_14 : decode cX0_read 14 = .ok (.lreturn, 1) := dk_173 (dk_at dksX0_read_0 14 rfl rfl)
theorem dX0_read_15 : decode cX0_read 15 = .ok (.astore_n 3, 1) := dk_78 (dk_at dksX0_read_0 15 rfl rfl)
theorem dX0_read_16 : decode cX0_read 16 = .ok (.aload_n 0, 1) := dk_42 (dk_at dksX0_read_0 16 rfl rfl)
theorem dX0_read_17 : decode cX0_read 17 = .ok (.iconst 3, 1) := dk_6 (dk_at dksX0_read_0 17 rfl rfl)
theorem dX0_read_18 : decode cX0_read 18 = .ok (.putfield 76, 3) := dk_181 0 76 (dk_at dksX0_read_0 18 rfl rfl)
theorem dX0_read_21 : decode cX0_read 21 = .ok (.ldc2_w 132, 3) := dk_20 0 132 (dk_at dksX0_read_0 21 rfl rfl)
theorem dX0_read_24 : decode cX0_read 24 = .ok (.lreturn, 1) := dk_173 (dk_at dksX0_read_1 0 rfl rfl)
theorem dX0_read_25 : decode cX0_read 25 = .ok (.astore_n 3, 1) := dk_78 (dk_at dksX0_read_1 1 rfl rfl)
theorem dX0_read_26 : decode cX0_read 26 = .ok (.aload_n 0, 1) := dk_42 (dk_at dksX0_read_1 2 rfl rfl)
theorem dX0_read_27 : decode cX0_read 27 = .ok (.aload_n 3, 1) := dk_45 (dk_at dksX0_read_1 3 rfl rfl)
theorem dX0_read_28 : decode cX0_read 28 = .ok (.invokevirtual 134, 3) := dk_182 0 134 (dk_at dksX0_read_1 4 rfl rfl)
theorem dX0_read_31 : decode cX0_read 31 = .ok (.i2l, 1) := dk_133 (dk_at dksX0_read_1 7 rfl rfl)
theorem dX0_read_32 : decode cX0_read 32 = .ok (.lreturn, 1) := dk_173 (dk_at dksX0_read_1 8 rfl rfl)
abbrev cX0_number : ByteArray := prog_1_method_4_code
def yX0_number : MethodName := ⟨RX0, "number", "(Ljava/lang/Object;I)J"⟩
def dkwX0_number_2 : List UInt8 := [46, 133, 167, 0, 9, 42, 192, 0, 7, 27, 47, 173]
abbrev dktX0_number_2 : List UInt8 := dkwX0_number_2 ++ []
def dkwX0_number_1 : List UInt8 := [42, 192, 0, 3, 77, 44, 27, 53, 133, 173, 42, 193, 0, 5, 153, 0, 15, 42, 192, 0, 5, 77, 44, 27]
abbrev dktX0_number_1 : List UInt8 := dkwX0_number_1 ++ dktX0_number_2
def dkwX0_number_0 : List UInt8 := [42, 193, 0, 1, 153, 0, 13, 42, 192, 0, 1, 77, 44, 27, 51, 133, 173, 42, 193, 0, 3, 153, 0, 13]
abbrev dktX0_number_0 : List UInt8 := dkwX0_number_0 ++ dktX0_number_1
theorem dksX0_number_0 : cX0_number.data.toList.drop 0 = dktX0_number_0 := by decide +kernel
theorem dksX0_number_1 : cX0_number.data.toList.drop 24 = dktX0_number_1 := dk_seg dksX0_number_0 24 rfl rfl
theorem dksX0_number_2 : cX0_number.data.toList.drop 48 = dktX0_number_2 := dk_seg dksX0_number_1 24 rfl rfl
theorem dX0_number_0 : decode cX0_number 0 = .ok (.aload_n 0, 1) := dk_42 (dk_at dksX0_number_0 0 rfl rfl)
theorem dX0_number_1 : decode cX0_number 1 = .ok (.instanceof 1, 3) := dk_193 0 1 (dk_at dksX0_number_0 1 rfl rfl)
theorem dX0_number_4 : decode cX0_number 4 = .ok (.ifCond .eq 13, 3) := dk_153 0 13 (dk_at dksX0_number_0 4 rfl rfl)
theorem dX0_number_7 : decode cX0_number 7 = .ok (.aload_n 0, 1) := dk_42 (dk_at dksX0_number_0 7 rfl rfl)
theorem dX0_number_8 : decode cX0_number 8 = .ok (.checkcast 1, 3) := dk_192 0 1 (dk_at dksX0_number_0 8 rfl rfl)
theorem dX0_number_11 : decode cX0_number 11 = .ok (.astore_n 2, 1) := dk_77 (dk_at dksX0_number_0 11 rfl rfl)
theorem dX0_number_12 : decode cX0_number 12 = .ok (.aload_n 2, 1) := dk_44 (dk_at dksX0_number_0 12 rfl rfl)
theorem dX0_number_13 : decode cX0_number 13 = .ok (.iload_n 1, 1) := dk_27 (dk_at dksX0_number_0 13 rfl rfl)
theorem dX0_number_14 : decode cX0_number 14 = .ok (.baload, 1) := dk_51 (dk_at dksX0_number_0 14 rfl rfl)
theorem dX0_number_15 : decode cX0_number 15 = .ok (.i2l, 1) := dk_133 (dk_at dksX0_number_0 15 rfl rfl)
theorem dX0_number_16 : decode cX0_number 16 = .ok (.lreturn, 1) := dk_173 (dk_at dksX0_number_0 16 rfl rfl)
theorem dX0_number_17 : decode cX0_number 17 = .ok (.aload_n 0, 1) := dk_42 (dk_at dksX0_number_0 17 rfl rfl)
theorem dX0_number_18 : decode cX0_number 18 = .ok (.instanceof 3, 3) := dk_193 0 3 (dk_at dksX0_number_0 18 rfl rfl)
theorem dX0_number_21 : decode cX0_number 21 = .ok (.ifCond .eq 13, 3) := dk_153 0 13 (dk_at dksX0_number_0 21 rfl rfl)
theorem dX0_number_24 : decode cX0_number 24 = .ok (.aload_n 0, 1) := dk_42 (dk_at dksX0_number_1 0 rfl rfl)
theorem dX0_number_25 : decode cX0_number 25 = .ok (.checkcast 3, 3) := dk_192 0 3 (dk_at dksX0_number_1 1 rfl rfl)
theorem dX0_number_28 : decode cX0_number 28 = .ok (.astore_n 2, 1) := dk_77 (dk_at dksX0_number_1 4 rfl rfl)
theorem dX0_number_29 : decode cX0_number 29 = .ok (.aload_n 2, 1) := dk_44 (dk_at dksX0_number_1 5 rfl rfl)
theorem dX0_number_30 : decode cX0_number 30 = .ok (.iload_n 1, 1) := dk_27 (dk_at dksX0_number_1 6 rfl rfl)
theorem dX0_number_31 : decode cX0_number 31 = .ok (.saload, 1) := dk_53 (dk_at dksX0_number_1 7 rfl rfl)
theorem dX0_number_32 : decode cX0_number 32 = .ok (.i2l, 1) := dk_133 (dk_at dksX0_number_1 8 rfl rfl)
theorem dX0_number_33 : decode cX0_number 33 = .ok (.lreturn, 1) := dk_173 (dk_at dksX0_number_1 9 rfl rfl)
theorem dX0_number_34 : decode cX0_number 34 = .ok (.aload_n 0, 1) := dk_42 (dk_at dksX0_number_1 10 rfl rfl)
theorem dX0_number_35 : decode cX0_number 35 = .ok (.instanceof 5, 3) := dk_193 0 5 (dk_at dksX0_number_1 11 rfl rfl)
theorem dX0_number_38 : decode cX0_number 38 = .ok (.ifCond .eq 15, 3) := dk_153 0 15 (dk_at dksX0_number_1 14 rfl rfl)
theorem dX0_number_41 : decode cX0_number 41 = .ok (.aload_n 0, 1) := dk_42 (dk_at dksX0_number_1 17 rfl rfl)
theorem dX0_number_42 : decode cX0_number 42 = .ok (.checkcast 5, 3) := dk_192 0 5 (dk_at dksX0_number_1 18 rfl rfl)
theorem dX0_number_45 : decode cX0_number 45 = .ok (.astore_n 2, 1) := dk_77 (dk_at dksX0_number_1 21 rfl rfl)
theorem dX0_number_46 : decode cX0_number 46 = .ok (.aload_n 2, 1) := dk_44 (dk_at dksX0_number_1 22 rfl rfl)
theorem dX0_number_47 : decode cX0_number 47 = .ok (.iload_n 1, 1) := dk_27 (dk_at dksX0_number_1 23 rfl rfl)
theorem dX0_number_48 : decode cX0_number 48 = .ok (.iaload, 1) := dk_46 (dk_at dksX0_number_2 0 rfl rfl)
theorem dX0_number_49 : decode cX0_number 49 = .ok (.i2l, 1) := dk_133 (dk_at dksX0_number_2 1 rfl rfl)
theorem dX0_number_50 : decode cX0_number 50 = .ok (.goto 9, 3) := dk_167 0 9 (dk_at dksX0_number_2 2 rfl rfl)
theorem dX0_number_53 : decode cX0_number 53 = .ok (.aload_n 0, 1) := dk_42 (dk_at dksX0_number_2 5 rfl rfl)
theorem dX0_number_54 : decode cX0_number 54 = .ok (.checkcast 7, 3) := dk_192 0 7 (dk_at dksX0_number_2 6 rfl rfl)
theorem dX0_number_57 : decode cX0_number 57 = .ok (.iload_n 1, 1) := dk_27 (dk_at dksX0_number_2 9 rfl rfl)
theorem dX0_number_58 : decode cX0_number 58 = .ok (.laload, 1) := dk_47 (dk_at dksX0_number_2 10 rfl rfl)
theorem dX0_number_59 : decode cX0_number 59 = .ok (.lreturn, 1) := dk_173 (dk_at dksX0_number_2 11 rfl rfl)
abbrev cX0_none : ByteArray := prog_1_method_12_code
def yX0_none : MethodName := ⟨RX0, "none", "(LIslandCall$Refused;)I"⟩
def dkwX0_none_0 : List UInt8 := [42, 43, 180, 0, 86, 181, 0, 76, 2, 172]
abbrev dktX0_none_0 : List UInt8 := dkwX0_none_0 ++ []
theorem dksX0_none_0 : cX0_none.data.toList.drop 0 = dktX0_none_0 := by decide +kernel
theorem dX0_none_0 : decode cX0_none 0 = .ok (.aload_n 0, 1) := dk_42 (dk_at dksX0_none_0 0 rfl rfl)
theorem dX0_none_1 : decode cX0_none 1 = .ok (.aload_n 1, 1) := dk_43 (dk_at dksX0_none_0 1 rfl rfl)
theorem dX0_none_2 : decode cX0_none 2 = .ok (.getfield 86, 3) := dk_180 0 86 (dk_at dksX0_none_0 2 rfl rfl)
theorem dX0_none_5 : decode cX0_none 5 = .ok (.putfield 76, 3) := dk_181 0 76 (dk_at dksX0_none_0 5 rfl rfl)
theorem dX0_none_8 : decode cX0_none 8 = .ok (.iconst (-1), 1) := dk_2 (dk_at dksX0_none_0 8 rfl rfl)
theorem dX0_none_9 : decode cX0_none 9 = .ok (.ireturn, 1) := dk_172 (dk_at dksX0_none_0 9 rfl rfl)
abbrev cX0_pour : ByteArray := prog_1_method_19_code
def yX0_pour : MethodName := ⟨RX0, "pour", "(IIIII)Z"⟩
def dkwX0_pour_5 : List UInt8 := [182, 0, 114, 172]
abbrev dktX0_pour_5 : List UInt8 := dkwX0_pour_5 ++ []
def dkwX0_pour_4 : List UInt8 := [184, 0, 142, 167, 0, 14, 58, 8, 42, 180, 0, 44, 6, 182, 0, 82, 191, 4, 172, 58, 6, 42, 25, 6]
abbrev dktX0_pour_4 : List UInt8 := dkwX0_pour_4 ++ dktX0_pour_5
def dkwX0_pour_3 : List UInt8 := [160, 0, 7, 4, 167, 0, 4, 3, 16, 8, 182, 0, 101, 25, 6, 28, 25, 7, 21, 4, 21, 5]
abbrev dktX0_pour_3 : List UInt8 := dkwX0_pour_3 ++ dktX0_pour_4
def dkwX0_pour_2 : List UInt8 := [27, 182, 0, 118, 58, 6, 42, 29, 182, 0, 118, 58, 7, 42, 25, 6, 184, 0, 138, 25, 7, 184, 0, 138]
abbrev dktX0_pour_2 : List UInt8 := dkwX0_pour_2 ++ dktX0_pour_3
def dkwX0_pour_1 : List UInt8 := [28, 155, 0, 17, 21, 4, 155, 0, 12, 21, 5, 155, 0, 7, 4, 167, 0, 4, 3, 4, 182, 0, 101, 42]
abbrev dktX0_pour_1 : List UInt8 := dkwX0_pour_1 ++ dktX0_pour_2
def dkwX0_pour_0 : List UInt8 := [42, 3, 181, 0, 76, 42, 27, 155, 0, 35, 27, 7, 162, 0, 30, 29, 155, 0, 26, 29, 7, 162, 0, 21]
abbrev dktX0_pour_0 : List UInt8 := dkwX0_pour_0 ++ dktX0_pour_1
theorem dksX0_pour_0 : cX0_pour.data.toList.drop 0 = dktX0_pour_0 := by decide +kernel
theorem dksX0_pour_1 : cX0_pour.data.toList.drop 24 = dktX0_pour_1 := dk_seg dksX0_pour_0 24 rfl rfl
theorem dksX0_pour_2 : cX0_pour.data.toList.drop 48 = dktX0_pour_2 := dk_seg dksX0_pour_1 24 rfl rfl
theorem dksX0_pour_3 : cX0_pour.data.toList.drop 72 = dktX0_pour_3 := dk_seg dksX0_pour_2 24 rfl rfl
theorem dksX0_pour_4 : cX0_pour.data.toList.drop 94 = dktX0_pour_4 := dk_seg dksX0_pour_3 22 rfl rfl
theorem dksX0_pour_5 : cX0_pour.data.toList.drop 118 = dktX0_pour_5 := dk_seg dksX0_pour_4 24 rfl rfl
theorem dX0_pour_0 : decode cX0_pour 0 = .ok (.aload_n 0, 1) := dk_42 (dk_at dksX0_pour_0 0 rfl rfl)
theorem dX0_pour_1 : decode cX0_pour 1 = .ok (.iconst 0, 1) := dk_3 (dk_at dksX0_pour_0 1 rfl rfl)
theorem dX0_pour_2 : decode cX0_pour 2 = .ok (.putfield 76, 3) := dk_181 0 76 (dk_at dksX0_pour_0 2 rfl rfl)
theorem dX0_pour_5 : decode cX0_pour 5 = .ok (.aload_n 0, 1) := dk_42 (dk_at dksX0_pour_0 5 rfl rfl)
theorem dX0_pour_6 : decode cX0_pour 6 = .ok (.iload_n 1, 1) := dk_27 (dk_at dksX0_pour_0 6 rfl rfl)
theorem dX0_pour_7 : decode cX0_pour 7 = .ok (.ifCond .lt 35, 3) := dk_155 0 35 (dk_at dksX0_pour_0 7 rfl rfl)
theorem dX0_pour_10 : decode cX0_pour 10 = .ok (.iload_n 1, 1) := dk_27 (dk_at dksX0_pour_0 10 rfl rfl)
theorem dX0_pour_11 : decode cX0_pour 11 = .ok (.iconst 4, 1) := dk_7 (dk_at dksX0_pour_0 11 rfl rfl)
theorem dX0_pour_12 : decode cX0_pour 12 = .ok (.if_icmp .ge 30, 3) := dk_162 0 30 (dk_at dksX0_pour_0 12 rfl rfl)
theorem dX0_pour_15 : decode cX0_pour 15 = .ok (.iload_n 3, 1) := dk_29 (dk_at dksX0_pour_0 15 rfl rfl)
theorem dX0_pour_16 : decode cX0_pour 16 = .ok (.ifCond .lt 26, 3) := dk_155 0 26 (dk_at dksX0_pour_0 16 rfl rfl)
theorem dX0_pour_19 : decode cX0_pour 19 = .ok (.iload_n 3, 1) := dk_29 (dk_at dksX0_pour_0 19 rfl rfl)
theorem dX0_pour_20 : decode cX0_pour 20 = .ok (.iconst 4, 1) := dk_7 (dk_at dksX0_pour_0 20 rfl rfl)
theorem dX0_pour_21 : decode cX0_pour 21 = .ok (.if_icmp .ge 21, 3) := dk_162 0 21 (dk_at dksX0_pour_0 21 rfl rfl)
theorem dX0_pour_24 : decode cX0_pour 24 = .ok (.iload_n 2, 1) := dk_28 (dk_at dksX0_pour_1 0 rfl rfl)
theorem dX0_pour_25 : decode cX0_pour 25 = .ok (.ifCond .lt 17, 3) := dk_155 0 17 (dk_at dksX0_pour_1 1 rfl rfl)
theorem dX0_pour_28 : decode cX0_pour 28 = .ok (.iload 4, 2) := dk_21 4 (dk_at dksX0_pour_1 4 rfl rfl)
theorem dX0_pour_30 : decode cX0_pour 30 = .ok (.ifCond .lt 12, 3) := dk_155 0 12 (dk_at dksX0_pour_1 6 rfl rfl)
theorem dX0_pour_33 : decode cX0_pour 33 = .ok (.iload 5, 2) := dk_21 5 (dk_at dksX0_pour_1 9 rfl rfl)
theorem dX0_pour_35 : decode cX0_pour 35 = .ok (.ifCond .lt 7, 3) := dk_155 0 7 (dk_at dksX0_pour_1 11 rfl rfl)
theorem dX0_pour_38 : decode cX0_pour 38 = .ok (.iconst 1, 1) := dk_4 (dk_at dksX0_pour_1 14 rfl rfl)
theorem dX0_pour_39 : decode cX0_pour 39 = .ok (.goto 4, 3) := dk_167 0 4 (dk_at dksX0_pour_1 15 rfl rfl)
theorem dX0_pour_42 : decode cX0_pour 42 = .ok (.iconst 0, 1) := dk_3 (dk_at dksX0_pour_1 18 rfl rfl)
theorem dX0_pour_43 : decode cX0_pour 43 = .ok (.iconst 1, 1) := dk_4 (dk_at dksX0_pour_1 19 rfl rfl)
theorem dX0_pour_44 : decode cX0_pour 44 = .ok (.invokevirtual 101, 3) := dk_182 0 101 (dk_at dksX0_pour_1 20 rfl rfl)
theorem dX0_pour_47 : decode cX0_pour 47 = .ok (.aload_n 0, 1) := dk_42 (dk_at dksX0_pour_1 23 rfl rfl)
theorem dX0_pour_48 : decode cX0_pour 48 = .ok (.iload_n 1, 1) := dk_27 (dk_at dksX0_pour_2 0 rfl rfl)
theorem dX0_pour_49 : decode cX0_pour 49 = .ok (.invokevirtual 118, 3) := dk_182 0 118 (dk_at dksX0_pour_2 1 rfl rfl)
theorem dX0_pour_52 : decode cX0_pour 52 = .ok (.astore 6, 2) := dk_58 6 (dk_at dksX0_pour_2 4 rfl rfl)
theorem dX0_pour_54 : decode cX0_pour 54 = .ok (.aload_n 0, 1) := dk_42 (dk_at dksX0_pour_2 6 rfl rfl)
theorem dX0_pour_55 : decode cX0_pour 55 = .ok (.iload_n 3, 1) := dk_29 (dk_at dksX0_pour_2 7 rfl rfl)
theorem dX0_pour_56 : decode cX0_pour 56 = .ok (.invokevirtual 118, 3) := dk_182 0 118 (dk_at dksX0_pour_2 8 rfl rfl)
theorem dX0_pour_59 : decode cX0_pour 59 = .ok (.astore 7, 2) := dk_58 7 (dk_at dksX0_pour_2 11 rfl rfl)
theorem dX0_pour_61 : decode cX0_pour 61 = .ok (.aload_n 0, 1) := dk_42 (dk_at dksX0_pour_2 13 rfl rfl)
theorem dX0_pour_62 : decode cX0_pour 62 = .ok (.aload 6, 2) := dk_25 6 (dk_at dksX0_pour_2 14 rfl rfl)
theorem dX0_pour_64 : decode cX0_pour 64 = .ok (.invokestatic 138, 3) := dk_184 0 138 (dk_at dksX0_pour_2 16 rfl rfl)
theorem dX0_pour_67 : decode cX0_pour 67 = .ok (.aload 7, 2) := dk_25 7 (dk_at dksX0_pour_2 19 rfl rfl)
theorem dX0_pour_69 : decode cX0_pour 69 = .ok (.invokestatic 138, 3) := dk_184 0 138 (dk_at dksX0_pour_2 21 rfl rfl)
theorem dX0_pour_72 : decode cX0_pour 72 = .ok (.if_icmp .ne 7, 3) := dk_160 0 7 (dk_at dksX0_pour_3 0 rfl rfl)
theorem dX0_pour_75 : decode cX0_pour 75 = .ok (.iconst 1, 1) := dk_4 (dk_at dksX0_pour_3 3 rfl rfl)
theorem dX0_pour_76 : decode cX0_pour 76 = .ok (.goto 4, 3) := dk_167 0 4 (dk_at dksX0_pour_3 4 rfl rfl)
theorem dX0_pour_79 : decode cX0_pour 79 = .ok (.iconst 0, 1) := dk_3 (dk_at dksX0_pour_3 7 rfl rfl)
theorem dX0_pour_80 : decode cX0_pour 80 = .ok (.bipush 8, 2) := dk_16 8 (dk_at dksX0_pour_3 8 rfl rfl)
theorem dX0_pour_82 : decode cX0_pour 82 = .ok (.invokevirtual 101, 3) := dk_182 0 101 (dk_at dksX0_pour_3 10 rfl rfl)
theorem dX0_pour_85 : decode cX0_pour 85 = .ok (.aload 6, 2) := dk_25 6 (dk_at dksX0_pour_3 13 rfl rfl)
theorem dX0_pour_87 : decode cX0_pour 87 = .ok (.iload_n 2, 1) := dk_28 (dk_at dksX0_pour_3 15 rfl rfl)
theorem dX0_pour_88 : decode cX0_pour 88 = .ok (.aload 7, 2) := dk_25 7 (dk_at dksX0_pour_3 16 rfl rfl)
theorem dX0_pour_90 : decode cX0_pour 90 = .ok (.iload 4, 2) := dk_21 4 (dk_at dksX0_pour_3 18 rfl rfl)
theorem dX0_pour_92 : decode cX0_pour 92 = .ok (.iload 5, 2) := dk_21 5 (dk_at dksX0_pour_3 20 rfl rfl)
theorem dX0_pour_94 : decode cX0_pour 94 = .ok (.invokestatic 142, 3) := dk_184 0 142 (dk_at dksX0_pour_4 0 rfl rfl)
theorem dX0_pour_97 : decode cX0_pour 97 = .ok (.goto 14, 3) := dk_167 0 14 (dk_at dksX0_pour_4 3 rfl rfl)
theorem dX0_pour_100 : decode cX0_pour 100 = .ok (.astore 8, 2) := dk_58 8 (dk_at dksX0_pour_4 6 rfl rfl)
theorem dX0_pour_102 : decode cX0_pour 102 = .ok (.aload_n 0, 1) := dk_42 (dk_at dksX0_pour_4 8 rfl rfl)
theorem dX0_pour_103 : decode cX0_pour 103 = .ok (.getfield 44, 3) := dk_180 0 44 (dk_at dksX0_pour_4 9 rfl rfl)
theorem dX0_pour_106 : decode cX0_pour 106 = .ok (.iconst 3, 1) := dk_6 (dk_at dksX0_pour_4 12 rfl rfl)
theorem dX0_pour_107 : decode cX0_pour 107 = .ok (.invokevirtual 82, 3) := dk_182 0 82 (dk_at dksX0_pour_4 13 rfl rfl)
theorem dX0_pour_110 : decode cX0_pour 110 = .ok (.athrow, 1) := dk_191 (dk_at dksX0_pour_4 16 rfl rfl)
theorem dX0_pour_111 : decode cX0_pour 111 = .ok (.iconst 1, 1) := dk_4 (dk_at dksX0_pour_4 17 rfl rfl)
theorem dX0_pour_112 : decode cX0_pour 112 = .ok (.ireturn, 1) := dk_172 (dk_at dksX0_pour_4 18 rfl rfl)
theorem dX0_pour_113 : decode cX0_pour 113 = .ok (.astore 6, 2) := dk_58 6 (dk_at dksX0_pour_4 19 rfl rfl)
theorem dX0_pour_115 : decode cX0_pour 115 = .ok (.aload_n 0, 1) := dk_42 (dk_at dksX0_pour_4 21 rfl rfl)
theorem dX0_pour_116 : decode cX0_pour 116 = .ok (.aload 6, 2) := dk_25 6 (dk_at dksX0_pour_4 22 rfl rfl)
theorem dX0_pour_118 : decode cX0_pour 118 = .ok (.invokevirtual 114, 3) := dk_182 0 114 (dk_at dksX0_pour_5 0 rfl rfl)
theorem dX0_pour_121 : decode cX0_pour 121 = .ok (.ireturn, 1) := dk_172 (dk_at dksX0_pour_5 3 rfl rfl)
abbrev cX0_sortOf : ByteArray := prog_1_method_2_code
def yX0_sortOf : MethodName := ⟨RX0, "sortOf", "(Ljava/lang/Object;)I"⟩
def dkwX0_sortOf_1 : List UInt8 := [193, 0, 5, 153, 0, 7, 5, 167, 0, 4, 6, 172]
abbrev dktX0_sortOf_1 : List UInt8 := dkwX0_sortOf_1 ++ []
def dkwX0_sortOf_0 : List UInt8 := [42, 193, 0, 1, 153, 0, 7, 3, 167, 0, 26, 42, 193, 0, 3, 153, 0, 7, 4, 167, 0, 15, 42]
abbrev dktX0_sortOf_0 : List UInt8 := dkwX0_sortOf_0 ++ dktX0_sortOf_1
theorem dksX0_sortOf_0 : cX0_sortOf.data.toList.drop 0 = dktX0_sortOf_0 := by decide +kernel
theorem dksX0_sortOf_1 : cX0_sortOf.data.toList.drop 23 = dktX0_sortOf_1 := dk_seg dksX0_sortOf_0 23 rfl rfl
theorem dX0_sortOf_0 : decode cX0_sortOf 0 = .ok (.aload_n 0, 1) := dk_42 (dk_at dksX0_sortOf_0 0 rfl rfl)
theorem dX0_sortOf_1 : decode cX0_sortOf 1 = .ok (.instanceof 1, 3) := dk_193 0 1 (dk_at dksX0_sortOf_0 1 rfl rfl)
theorem dX0_sortOf_4 : decode cX0_sortOf 4 = .ok (.ifCond .eq 7, 3) := dk_153 0 7 (dk_at dksX0_sortOf_0 4 rfl rfl)
theorem dX0_sortOf_7 : decode cX0_sortOf 7 = .ok (.iconst 0, 1) := dk_3 (dk_at dksX0_sortOf_0 7 rfl rfl)
theorem dX0_sortOf_8 : decode cX0_sortOf 8 = .ok (.goto 26, 3) := dk_167 0 26 (dk_at dksX0_sortOf_0 8 rfl rfl)
theorem dX0_sortOf_11 : decode cX0_sortOf 11 = .ok (.aload_n 0, 1) := dk_42 (dk_at dksX0_sortOf_0 11 rfl rfl)
theorem dX0_sortOf_12 : decode cX0_sortOf 12 = .ok (.instanceof 3, 3) := dk_193 0 3 (dk_at dksX0_sortOf_0 12 rfl rfl)
theorem dX0_sortOf_15 : decode cX0_sortOf 15 = .ok (.ifCond .eq 7, 3) := dk_153 0 7 (dk_at dksX0_sortOf_0 15 rfl rfl)
theorem dX0_sortOf_18 : decode cX0_sortOf 18 = .ok (.iconst 1, 1) := dk_4 (dk_at dksX0_sortOf_0 18 rfl rfl)
theorem dX0_sortOf_19 : decode cX0_sortOf 19 = .ok (.goto 15, 3) := dk_167 0 15 (dk_at dksX0_sortOf_0 19 rfl rfl)
theorem dX0_sortOf_22 : decode cX0_sortOf 22 = .ok (.aload_n 0, 1) := dk_42 (dk_at dksX0_sortOf_0 22 rfl rfl)
theorem dX0_sortOf_23 : decode cX0_sortOf 23 = .ok (.instanceof 5, 3) := dk_193 0 5 (dk_at dksX0_sortOf_1 0 rfl rfl)
theorem dX0_sortOf_26 : decode cX0_sortOf 26 = .ok (.ifCond .eq 7, 3) := dk_153 0 7 (dk_at dksX0_sortOf_1 3 rfl rfl)
theorem dX0_sortOf_29 : decode cX0_sortOf 29 = .ok (.iconst 2, 1) := dk_5 (dk_at dksX0_sortOf_1 6 rfl rfl)
theorem dX0_sortOf_30 : decode cX0_sortOf 30 = .ok (.goto 4, 3) := dk_167 0 4 (dk_at dksX0_sortOf_1 7 rfl rfl)
theorem dX0_sortOf_33 : decode cX0_sortOf 33 = .ok (.iconst 3, 1) := dk_6 (dk_at dksX0_sortOf_1 10 rfl rfl)
theorem dX0_sortOf_34 : decode cX0_sortOf 34 = .ok (.ireturn, 1) := dk_172 (dk_at dksX0_sortOf_1 11 rfl rfl)
abbrev cX0_feed : ByteArray := prog_1_method_29_code
def yX0_feed : MethodName := ⟨RX0, "feed", "(IIIII)I"⟩
def dkwX0_feed_2 : List UInt8 := [172]
abbrev dktX0_feed_2 : List UInt8 := dkwX0_feed_2 ++ []
def dkwX0_feed_1 : List UInt8 := [182, 0, 184, 42, 29, 182, 0, 184, 42, 21, 4, 182, 0, 184, 42, 21, 5, 182, 0, 184, 42, 180, 0, 181]
abbrev dktX0_feed_1 : List UInt8 := dkwX0_feed_1 ++ dktX0_feed_2
def dkwX0_feed_0 : List UInt8 := [42, 180, 0, 181, 16, 20, 96, 17, 3, 132, 164, 0, 5, 2, 172, 42, 27, 182, 0, 184, 42, 28]
abbrev dktX0_feed_0 : List UInt8 := dkwX0_feed_0 ++ dktX0_feed_1
theorem dksX0_feed_0 : cX0_feed.data.toList.drop 0 = dktX0_feed_0 := by decide +kernel
theorem dksX0_feed_1 : cX0_feed.data.toList.drop 22 = dktX0_feed_1 := dk_seg dksX0_feed_0 22 rfl rfl
theorem dksX0_feed_2 : cX0_feed.data.toList.drop 46 = dktX0_feed_2 := dk_seg dksX0_feed_1 24 rfl rfl
theorem dX0_feed_0 : decode cX0_feed 0 = .ok (.aload_n 0, 1) := dk_42 (dk_at dksX0_feed_0 0 rfl rfl)
theorem dX0_feed_1 : decode cX0_feed 1 = .ok (.getfield 181, 3) := dk_180 0 181 (dk_at dksX0_feed_0 1 rfl rfl)
theorem dX0_feed_4 : decode cX0_feed 4 = .ok (.bipush 20, 2) := dk_16 20 (dk_at dksX0_feed_0 4 rfl rfl)
theorem dX0_feed_6 : decode cX0_feed 6 = .ok (.iadd, 1) := dk_96 (dk_at dksX0_feed_0 6 rfl rfl)
theorem dX0_feed_7 : decode cX0_feed 7 = .ok (.sipush 900, 3) := dk_17 3 132 (dk_at dksX0_feed_0 7 rfl rfl)
theorem dX0_feed_10 : decode cX0_feed 10 = .ok (.if_icmp .le 5, 3) := dk_164 0 5 (dk_at dksX0_feed_0 10 rfl rfl)
theorem dX0_feed_13 : decode cX0_feed 13 = .ok (.iconst (-1), 1) := dk_2 (dk_at dksX0_feed_0 13 rfl rfl)
theorem dX0_feed_14 : decode cX0_feed 14 = .ok (.ireturn, 1) := dk_172 (dk_at dksX0_feed_0 14 rfl rfl)
theorem dX0_feed_15 : decode cX0_feed 15 = .ok (.aload_n 0, 1) := dk_42 (dk_at dksX0_feed_0 15 rfl rfl)
theorem dX0_feed_16 : decode cX0_feed 16 = .ok (.iload_n 1, 1) := dk_27 (dk_at dksX0_feed_0 16 rfl rfl)
theorem dX0_feed_17 : decode cX0_feed 17 = .ok (.invokevirtual 184, 3) := dk_182 0 184 (dk_at dksX0_feed_0 17 rfl rfl)
theorem dX0_feed_20 : decode cX0_feed 20 = .ok (.aload_n 0, 1) := dk_42 (dk_at dksX0_feed_0 20 rfl rfl)
theorem dX0_feed_21 : decode cX0_feed 21 = .ok (.iload_n 2, 1) := dk_28 (dk_at dksX0_feed_0 21 rfl rfl)
theorem dX0_feed_22 : decode cX0_feed 22 = .ok (.invokevirtual 184, 3) := dk_182 0 184 (dk_at dksX0_feed_1 0 rfl rfl)
theorem dX0_feed_25 : decode cX0_feed 25 = .ok (.aload_n 0, 1) := dk_42 (dk_at dksX0_feed_1 3 rfl rfl)
theorem dX0_feed_26 : decode cX0_feed 26 = .ok (.iload_n 3, 1) := dk_29 (dk_at dksX0_feed_1 4 rfl rfl)
theorem dX0_feed_27 : decode cX0_feed 27 = .ok (.invokevirtual 184, 3) := dk_182 0 184 (dk_at dksX0_feed_1 5 rfl rfl)
theorem dX0_feed_30 : decode cX0_feed 30 = .ok (.aload_n 0, 1) := dk_42 (dk_at dksX0_feed_1 8 rfl rfl)
theorem dX0_feed_31 : decode cX0_feed 31 = .ok (.iload 4, 2) := dk_21 4 (dk_at dksX0_feed_1 9 rfl rfl)
theorem dX0_feed_33 : decode cX0_feed 33 = .ok (.invokevirtual 184, 3) := dk_182 0 184 (dk_at dksX0_feed_1 11 rfl rfl)
theorem dX0_feed_36 : decode cX0_feed 36 = .ok (.aload_n 0, 1) := dk_42 (dk_at dksX0_feed_1 14 rfl rfl)
theorem dX0_feed_37 : decode cX0_feed 37 = .ok (.iload 5, 2) := dk_21 5 (dk_at dksX0_feed_1 15 rfl rfl)
theorem dX0_feed_39 : decode cX0_feed 39 = .ok (.invokevirtual 184, 3) := dk_182 0 184 (dk_at dksX0_feed_1 17 rfl rfl)
theorem dX0_feed_42 : decode cX0_feed 42 = .ok (.aload_n 0, 1) := dk_42 (dk_at dksX0_feed_1 20 rfl rfl)
theorem dX0_feed_43 : decode cX0_feed 43 = .ok (.getfield 181, 3) := dk_180 0 181 (dk_at dksX0_feed_1 21 rfl rfl)
theorem dX0_feed_46 : decode cX0_feed 46 = .ok (.ireturn, 1) := dk_172 (dk_at dksX0_feed_2 0 rfl rfl)
abbrev cX0_lay : ByteArray := prog_1_method_30_code
def yX0_lay : MethodName := ⟨RX0, "lay", "(I)V"⟩
def dkwX0_lay_1 : List UInt8 := [180, 0, 181, 4, 96, 181, 0, 181, 132, 2, 248, 167, 255, 226, 177]
abbrev dktX0_lay_1 : List UInt8 := dkwX0_lay_1 ++ []
def dkwX0_lay_0 : List UInt8 := [16, 24, 61, 28, 155, 0, 32, 42, 180, 0, 24, 42, 180, 0, 181, 27, 28, 122, 145, 84, 42, 89]
abbrev dktX0_lay_0 : List UInt8 := dkwX0_lay_0 ++ dktX0_lay_1
theorem dksX0_lay_0 : cX0_lay.data.toList.drop 0 = dktX0_lay_0 := by decide +kernel
theorem dksX0_lay_1 : cX0_lay.data.toList.drop 22 = dktX0_lay_1 := dk_seg dksX0_lay_0 22 rfl rfl
theorem dX0_lay_0 : decode cX0_lay 0 = .ok (.bipush 24, 2) := dk_16 24 (dk_at dksX0_lay_0 0 rfl rfl)
theorem dX0_lay_2 : decode cX0_lay 2 = .ok (.istore_n 2, 1) := dk_61 (dk_at dksX0_lay_0 2 rfl rfl)
theorem dX0_lay_3 : decode cX0_lay 3 = .ok (.iload_n 2, 1) := dk_28 (dk_at dksX0_lay_0 3 rfl rfl)
theorem dX0_lay_4 : decode cX0_lay 4 = .ok (.ifCond .lt 32, 3) := dk_155 0 32 (dk_at dksX0_lay_0 4 rfl rfl)
theorem dX0_lay_7 : decode cX0_lay 7 = .ok (.aload_n 0, 1) := dk_42 (dk_at dksX0_lay_0 7 rfl rfl)
theorem dX0_lay_8 : decode cX0_lay 8 = .ok (.getfield 24, 3) := dk_180 0 24 (dk_at dksX0_lay_0 8 rfl rfl)
theorem dX0_lay_11 : decode cX0_lay 11 = .ok (.aload_n 0, 1) := dk_42 (dk_at dksX0_lay_0 11 rfl rfl)
theorem dX0_lay_12 : decode cX0_lay 12 = .ok (.getfield 181, 3) := dk_180 0 181 (dk_at dksX0_lay_0 12 rfl rfl)
theorem dX0_lay_15 : decode cX0_lay 15 = .ok (.iload_n 1, 1) := dk_27 (dk_at dksX0_lay_0 15 rfl rfl)
theorem dX0_lay_16 : decode cX0_lay 16 = .ok (.iload_n 2, 1) := dk_28 (dk_at dksX0_lay_0 16 rfl rfl)
theorem dX0_lay_17 : decode cX0_lay 17 = .ok (.ishr, 1) := dk_122 (dk_at dksX0_lay_0 17 rfl rfl)
theorem dX0_lay_18 : decode cX0_lay 18 = .ok (.i2b, 1) := dk_145 (dk_at dksX0_lay_0 18 rfl rfl)
theorem dX0_lay_19 : decode cX0_lay 19 = .ok (.bastore, 1) := dk_84 (dk_at dksX0_lay_0 19 rfl rfl)
theorem dX0_lay_20 : decode cX0_lay 20 = .ok (.aload_n 0, 1) := dk_42 (dk_at dksX0_lay_0 20 rfl rfl)
theorem dX0_lay_21 : decode cX0_lay 21 = .ok (.dup, 1) := dk_89 (dk_at dksX0_lay_0 21 rfl rfl)
theorem dX0_lay_22 : decode cX0_lay 22 = .ok (.getfield 181, 3) := dk_180 0 181 (dk_at dksX0_lay_1 0 rfl rfl)
theorem dX0_lay_25 : decode cX0_lay 25 = .ok (.iconst 1, 1) := dk_4 (dk_at dksX0_lay_1 3 rfl rfl)
theorem dX0_lay_26 : decode cX0_lay 26 = .ok (.iadd, 1) := dk_96 (dk_at dksX0_lay_1 4 rfl rfl)
theorem dX0_lay_27 : decode cX0_lay 27 = .ok (.putfield 181, 3) := dk_181 0 181 (dk_at dksX0_lay_1 5 rfl rfl)
theorem dX0_lay_30 : decode cX0_lay 30 = .ok (.iinc 2 (-8), 3) := dk_132 2 248 (dk_at dksX0_lay_1 8 rfl rfl)
theorem dX0_lay_33 : decode cX0_lay 33 = .ok (.goto (-30), 3) := dk_167 255 226 (dk_at dksX0_lay_1 11 rfl rfl)
theorem dX0_lay_36 : decode cX0_lay 36 = .ok (.return_, 1) := dk_177 (dk_at dksX0_lay_1 14 rfl rfl)
abbrev cX0_boat : ByteArray := prog_1_method_33_code
def yX0_boat : MethodName := ⟨RX0, "boat", "(I)I"⟩
def dkwX0_boat_2 : List UInt8 := [181, 0, 208, 44, 180, 0, 164, 172, 77, 42, 44, 182, 0, 212, 172]
abbrev dktX0_boat_2 : List UInt8 := dkwX0_boat_2 ++ []
def dkwX0_boat_1 : List UInt8 := [89, 42, 27, 183, 0, 199, 44, 182, 0, 202, 42, 182, 0, 153, 44, 182, 0, 205, 42, 180, 0, 55, 1]
abbrev dktX0_boat_1 : List UInt8 := dkwX0_boat_1 ++ dktX0_boat_2
def dkwX0_boat_0 : List UInt8 := [42, 27, 17, 3, 132, 182, 0, 194, 154, 0, 5, 2, 172, 187, 0, 63, 89, 183, 0, 65, 77, 187, 0, 197]
abbrev dktX0_boat_0 : List UInt8 := dkwX0_boat_0 ++ dktX0_boat_1
theorem dksX0_boat_0 : cX0_boat.data.toList.drop 0 = dktX0_boat_0 := by decide +kernel
theorem dksX0_boat_1 : cX0_boat.data.toList.drop 24 = dktX0_boat_1 := dk_seg dksX0_boat_0 24 rfl rfl
theorem dksX0_boat_2 : cX0_boat.data.toList.drop 47 = dktX0_boat_2 := dk_seg dksX0_boat_1 23 rfl rfl
theorem dX0_boat_0 : decode cX0_boat 0 = .ok (.aload_n 0, 1) := dk_42 (dk_at dksX0_boat_0 0 rfl rfl)
theorem dX0_boat_1 : decode cX0_boat 1 = .ok (.iload_n 1, 1) := dk_27 (dk_at dksX0_boat_0 1 rfl rfl)
theorem dX0_boat_2 : decode cX0_boat 2 = .ok (.sipush 900, 3) := dk_17 3 132 (dk_at dksX0_boat_0 2 rfl rfl)
theorem dX0_boat_5 : decode cX0_boat 5 = .ok (.invokevirtual 194, 3) := dk_182 0 194 (dk_at dksX0_boat_0 5 rfl rfl)
theorem dX0_boat_8 : decode cX0_boat 8 = .ok (.ifCond .ne 5, 3) := dk_154 0 5 (dk_at dksX0_boat_0 8 rfl rfl)
theorem dX0_boat_11 : decode cX0_boat 11 = .ok (.iconst (-1), 1) := dk_2 (dk_at dksX0_boat_0 11 rfl rfl)
theorem dX0_boat_12 : decode cX0_boat 12 = .ok (.ireturn, 1) := dk_172 (dk_at dksX0_boat_0 12 rfl rfl)
theorem dX0_boat_13 : decode cX0_boat 13 = .ok (.new 63, 3) := dk_187 0 63 (dk_at dksX0_boat_0 13 rfl rfl)
theorem dX0_boat_16 : decode cX0_boat 16 = .ok (.dup, 1) := dk_89 (dk_at dksX0_boat_0 16 rfl rfl)
theorem dX0_boat_17 : decode cX0_boat 17 = .ok (.invokespecial 65, 3) := dk_183 0 65 (dk_at dksX0_boat_0 17 rfl rfl)
theorem dX0_boat_20 : decode cX0_boat 20 = .ok (.astore_n 2, 1) := dk_77 (dk_at dksX0_boat_0 20 rfl rfl)
theorem dX0_boat_21 : decode cX0_boat 21 = .ok (.new 197, 3) := dk_187 0 197 (dk_at dksX0_boat_0 21 rfl rfl)
theorem dX0_boat_24 : decode cX0_boat 24 = .ok (.dup, 1) := dk_89 (dk_at dksX0_boat_1 0 rfl rfl)
theorem dX0_boat_25 : decode cX0_boat 25 = .ok (.aload_n 0, 1) := dk_42 (dk_at dksX0_boat_1 1 rfl rfl)
theorem dX0_boat_26 : decode cX0_boat 26 = .ok (.iload_n 1, 1) := dk_27 (dk_at dksX0_boat_1 2 rfl rfl)
theorem dX0_boat_27 : decode cX0_boat 27 = .ok (.invokespecial 199, 3) := dk_183 0 199 (dk_at dksX0_boat_1 3 rfl rfl)
theorem dX0_boat_30 : decode cX0_boat 30 = .ok (.aload_n 2, 1) := dk_44 (dk_at dksX0_boat_1 6 rfl rfl)
theorem dX0_boat_31 : decode cX0_boat 31 = .ok (.invokevirtual 202, 3) := dk_182 0 202 (dk_at dksX0_boat_1 7 rfl rfl)
theorem dX0_boat_34 : decode cX0_boat 34 = .ok (.aload_n 0, 1) := dk_42 (dk_at dksX0_boat_1 10 rfl rfl)
theorem dX0_boat_35 : decode cX0_boat 35 = .ok (.invokevirtual 153, 3) := dk_182 0 153 (dk_at dksX0_boat_1 11 rfl rfl)
theorem dX0_boat_38 : decode cX0_boat 38 = .ok (.aload_n 2, 1) := dk_44 (dk_at dksX0_boat_1 14 rfl rfl)
theorem dX0_boat_39 : decode cX0_boat 39 = .ok (.invokevirtual 205, 3) := dk_182 0 205 (dk_at dksX0_boat_1 15 rfl rfl)
theorem dX0_boat_42 : decode cX0_boat 42 = .ok (.aload_n 0, 1) := dk_42 (dk_at dksX0_boat_1 18 rfl rfl)
theorem dX0_boat_43 : decode cX0_boat 43 = .ok (.getfield 55, 3) := dk_180 0 55 (dk_at dksX0_boat_1 19 rfl rfl)
theorem dX0_boat_46 : decode cX0_boat 46 = .ok (.aconst_null, 1) := dk_1 (dk_at dksX0_boat_1 22 rfl rfl)
theorem dX0_boat_47 : decode cX0_boat 47 = .ok (.putfield 208, 3) := dk_181 0 208 (dk_at dksX0_boat_2 0 rfl rfl)
theorem dX0_boat_50 : decode cX0_boat 50 = .ok (.aload_n 2, 1) := dk_44 (dk_at dksX0_boat_2 3 rfl rfl)
theorem dX0_boat_51 : decode cX0_boat 51 = .ok (.getfield 164, 3) := dk_180 0 164 (dk_at dksX0_boat_2 4 rfl rfl)
theorem dX0_boat_54 : decode cX0_boat 54 = .ok (.ireturn, 1) := dk_172 (dk_at dksX0_boat_2 7 rfl rfl)
theorem dX0_boat_55 : decode cX0_boat 55 = .ok (.astore_n 2, 1) := dk_77 (dk_at dksX0_boat_2 8 rfl rfl)
theorem dX0_boat_56 : decode cX0_boat 56 = .ok (.aload_n 0, 1) := dk_42 (dk_at dksX0_boat_2 9 rfl rfl)
theorem dX0_boat_57 : decode cX0_boat 57 = .ok (.aload_n 2, 1) := dk_44 (dk_at dksX0_boat_2 10 rfl rfl)
theorem dX0_boat_58 : decode cX0_boat 58 = .ok (.invokevirtual 212, 3) := dk_182 0 212 (dk_at dksX0_boat_2 11 rfl rfl)
theorem dX0_boat_61 : decode cX0_boat 61 = .ok (.ireturn, 1) := dk_172 (dk_at dksX0_boat_2 14 rfl rfl)
abbrev cX0_opens : ByteArray := prog_1_method_31_code
def yX0_opens : MethodName := ⟨RX0, "opens", "(II)Z"⟩
def dkwX0_opens_2 : List UInt8 := [181, 0, 31, 4, 172]
abbrev dktX0_opens_2 : List UInt8 := dkwX0_opens_2 ++ []
def dkwX0_opens_1 : List UInt8 := [181, 0, 76, 42, 180, 0, 76, 158, 0, 5, 3, 172, 42, 3, 181, 0, 181, 42, 3, 181, 0, 27, 42, 2]
abbrev dktX0_opens_1 : List UInt8 := dkwX0_opens_1 ++ dktX0_opens_2
def dkwX0_opens_0 : List UInt8 := [42, 27, 155, 0, 16, 27, 42, 180, 0, 181, 163, 0, 8, 27, 28, 164, 0, 7, 4, 167, 0, 4, 3]
abbrev dktX0_opens_0 : List UInt8 := dkwX0_opens_0 ++ dktX0_opens_1
theorem dksX0_opens_0 : cX0_opens.data.toList.drop 0 = dktX0_opens_0 := by decide +kernel
theorem dksX0_opens_1 : cX0_opens.data.toList.drop 23 = dktX0_opens_1 := dk_seg dksX0_opens_0 23 rfl rfl
theorem dksX0_opens_2 : cX0_opens.data.toList.drop 47 = dktX0_opens_2 := dk_seg dksX0_opens_1 24 rfl rfl
theorem dX0_opens_0 : decode cX0_opens 0 = .ok (.aload_n 0, 1) := dk_42 (dk_at dksX0_opens_0 0 rfl rfl)
theorem dX0_opens_1 : decode cX0_opens 1 = .ok (.iload_n 1, 1) := dk_27 (dk_at dksX0_opens_0 1 rfl rfl)
theorem dX0_opens_2 : decode cX0_opens 2 = .ok (.ifCond .lt 16, 3) := dk_155 0 16 (dk_at dksX0_opens_0 2 rfl rfl)
theorem dX0_opens_5 : decode cX0_opens 5 = .ok (.iload_n 1, 1) := dk_27 (dk_at dksX0_opens_0 5 rfl rfl)
theorem dX0_opens_6 : decode cX0_opens 6 = .ok (.aload_n 0, 1) := dk_42 (dk_at dksX0_opens_0 6 rfl rfl)
theorem dX0_opens_7 : decode cX0_opens 7 = .ok (.getfield 181, 3) := dk_180 0 181 (dk_at dksX0_opens_0 7 rfl rfl)
theorem dX0_opens_10 : decode cX0_opens 10 = .ok (.if_icmp .gt 8, 3) := dk_163 0 8 (dk_at dksX0_opens_0 10 rfl rfl)
theorem dX0_opens_13 : decode cX0_opens 13 = .ok (.iload_n 1, 1) := dk_27 (dk_at dksX0_opens_0 13 rfl rfl)
theorem dX0_opens_14 : decode cX0_opens 14 = .ok (.iload_n 2, 1) := dk_28 (dk_at dksX0_opens_0 14 rfl rfl)
theorem dX0_opens_15 : decode cX0_opens 15 = .ok (.if_icmp .le 7, 3) := dk_164 0 7 (dk_at dksX0_opens_0 15 rfl rfl)
theorem dX0_opens_18 : decode cX0_opens 18 = .ok (.iconst 1, 1) := dk_4 (dk_at dksX0_opens_0 18 rfl rfl)
theorem dX0_opens_19 : decode cX0_opens 19 = .ok (.goto 4, 3) := dk_167 0 4 (dk_at dksX0_opens_0 19 rfl rfl)
theorem dX0_opens_22 : decode cX0_opens 22 = .ok (.iconst 0, 1) := dk_3 (dk_at dksX0_opens_0 22 rfl rfl)
theorem dX0_opens_23 : decode cX0_opens 23 = .ok (.putfield 76, 3) := dk_181 0 76 (dk_at dksX0_opens_1 0 rfl rfl)
theorem dX0_opens_26 : decode cX0_opens 26 = .ok (.aload_n 0, 1) := dk_42 (dk_at dksX0_opens_1 3 rfl rfl)
theorem dX0_opens_27 : decode cX0_opens 27 = .ok (.getfield 76, 3) := dk_180 0 76 (dk_at dksX0_opens_1 4 rfl rfl)
theorem dX0_opens_30 : decode cX0_opens 30 = .ok (.ifCond .le 5, 3) := dk_158 0 5 (dk_at dksX0_opens_1 7 rfl rfl)
theorem dX0_opens_33 : decode cX0_opens 33 = .ok (.iconst 0, 1) := dk_3 (dk_at dksX0_opens_1 10 rfl rfl)
theorem dX0_opens_34 : decode cX0_opens 34 = .ok (.ireturn, 1) := dk_172 (dk_at dksX0_opens_1 11 rfl rfl)
theorem dX0_opens_35 : decode cX0_opens 35 = .ok (.aload_n 0, 1) := dk_42 (dk_at dksX0_opens_1 12 rfl rfl)
theorem dX0_opens_36 : decode cX0_opens 36 = .ok (.iconst 0, 1) := dk_3 (dk_at dksX0_opens_1 13 rfl rfl)
theorem dX0_opens_37 : decode cX0_opens 37 = .ok (.putfield 181, 3) := dk_181 0 181 (dk_at dksX0_opens_1 14 rfl rfl)
theorem dX0_opens_40 : decode cX0_opens 40 = .ok (.aload_n 0, 1) := dk_42 (dk_at dksX0_opens_1 17 rfl rfl)
theorem dX0_opens_41 : decode cX0_opens 41 = .ok (.iconst 0, 1) := dk_3 (dk_at dksX0_opens_1 18 rfl rfl)
theorem dX0_opens_42 : decode cX0_opens 42 = .ok (.putfield 27, 3) := dk_181 0 27 (dk_at dksX0_opens_1 19 rfl rfl)
theorem dX0_opens_45 : decode cX0_opens 45 = .ok (.aload_n 0, 1) := dk_42 (dk_at dksX0_opens_1 22 rfl rfl)
theorem dX0_opens_46 : decode cX0_opens 46 = .ok (.iconst (-1), 1) := dk_2 (dk_at dksX0_opens_1 23 rfl rfl)
theorem dX0_opens_47 : decode cX0_opens 47 = .ok (.putfield 31, 3) := dk_181 0 31 (dk_at dksX0_opens_2 0 rfl rfl)
theorem dX0_opens_50 : decode cX0_opens 50 = .ok (.iconst 1, 1) := dk_4 (dk_at dksX0_opens_2 3 rfl rfl)
theorem dX0_opens_51 : decode cX0_opens 51 = .ok (.ireturn, 1) := dk_172 (dk_at dksX0_opens_2 4 rfl rfl)
abbrev cX0_has : ByteArray := prog_1_method_6_code
def yX0_has : MethodName := ⟨RX0, "has", "(II)Z"⟩
def dkwX0_has_0 : List UInt8 := [26, 27, 122, 4, 126, 4, 160, 0, 7, 4, 167, 0, 4, 3, 172]
abbrev dktX0_has_0 : List UInt8 := dkwX0_has_0 ++ []
theorem dksX0_has_0 : cX0_has.data.toList.drop 0 = dktX0_has_0 := by decide +kernel
theorem dX0_has_0 : decode cX0_has 0 = .ok (.iload_n 0, 1) := dk_26 (dk_at dksX0_has_0 0 rfl rfl)
theorem dX0_has_1 : decode cX0_has 1 = .ok (.iload_n 1, 1) := dk_27 (dk_at dksX0_has_0 1 rfl rfl)
theorem dX0_has_2 : decode cX0_has 2 = .ok (.ishr, 1) := dk_122 (dk_at dksX0_has_0 2 rfl rfl)
theorem dX0_has_3 : decode cX0_has 3 = .ok (.iconst 1, 1) := dk_4 (dk_at dksX0_has_0 3 rfl rfl)
theorem dX0_has_4 : decode cX0_has 4 = .ok (.iand, 1) := dk_126 (dk_at dksX0_has_0 4 rfl rfl)
theorem dX0_has_5 : decode cX0_has 5 = .ok (.iconst 1, 1) := dk_4 (dk_at dksX0_has_0 5 rfl rfl)
theorem dX0_has_6 : decode cX0_has 6 = .ok (.if_icmp .ne 7, 3) := dk_160 0 7 (dk_at dksX0_has_0 6 rfl rfl)
theorem dX0_has_9 : decode cX0_has 9 = .ok (.iconst 1, 1) := dk_4 (dk_at dksX0_has_0 9 rfl rfl)
theorem dX0_has_10 : decode cX0_has 10 = .ok (.goto 4, 3) := dk_167 0 4 (dk_at dksX0_has_0 10 rfl rfl)
theorem dX0_has_13 : decode cX0_has 13 = .ok (.iconst 0, 1) := dk_3 (dk_at dksX0_has_0 13 rfl rfl)
theorem dX0_has_14 : decode cX0_has 14 = .ok (.ireturn, 1) := dk_172 (dk_at dksX0_has_0 14 rfl rfl)
abbrev cX0_at : ByteArray := prog_1_method_21_code
def yX0_at : MethodName := ⟨RX0, "at", "()LIslandCall$Boat;"⟩
def dkwX0_at_0 : List UInt8 := [42, 180, 0, 55, 180, 0, 150, 176]
abbrev dktX0_at_0 : List UInt8 := dkwX0_at_0 ++ []
theorem dksX0_at_0 : cX0_at.data.toList.drop 0 = dktX0_at_0 := by decide +kernel
theorem dX0_at_0 : decode cX0_at 0 = .ok (.aload_n 0, 1) := dk_42 (dk_at dksX0_at_0 0 rfl rfl)
theorem dX0_at_1 : decode cX0_at 1 = .ok (.getfield 55, 3) := dk_180 0 55 (dk_at dksX0_at_0 1 rfl rfl)
theorem dX0_at_4 : decode cX0_at 4 = .ok (.getfield 150, 3) := dk_180 0 150 (dk_at dksX0_at_0 4 rfl rfl)
theorem dX0_at_7 : decode cX0_at 7 = .ok (.areturn, 1) := dk_176 (dk_at dksX0_at_0 7 rfl rfl)
abbrev cX0_faulty : ByteArray := prog_1_method_32_code
def yX0_faulty : MethodName := ⟨RX0, "faulty", "(LIslandCall$Bad;)I"⟩
def dkwX0_faulty_0 : List UInt8 := [42, 43, 180, 0, 188, 181, 0, 27, 42, 43, 180, 0, 191, 181, 0, 31, 42, 16, 9, 181, 0, 76, 2, 172]
abbrev dktX0_faulty_0 : List UInt8 := dkwX0_faulty_0 ++ []
theorem dksX0_faulty_0 : cX0_faulty.data.toList.drop 0 = dktX0_faulty_0 := by decide +kernel
theorem dX0_faulty_0 : decode cX0_faulty 0 = .ok (.aload_n 0, 1) := dk_42 (dk_at dksX0_faulty_0 0 rfl rfl)
theorem dX0_faulty_1 : decode cX0_faulty 1 = .ok (.aload_n 1, 1) := dk_43 (dk_at dksX0_faulty_0 1 rfl rfl)
theorem dX0_faulty_2 : decode cX0_faulty 2 = .ok (.getfield 188, 3) := dk_180 0 188 (dk_at dksX0_faulty_0 2 rfl rfl)
theorem dX0_faulty_5 : decode cX0_faulty 5 = .ok (.putfield 27, 3) := dk_181 0 27 (dk_at dksX0_faulty_0 5 rfl rfl)
theorem dX0_faulty_8 : decode cX0_faulty 8 = .ok (.aload_n 0, 1) := dk_42 (dk_at dksX0_faulty_0 8 rfl rfl)
theorem dX0_faulty_9 : decode cX0_faulty 9 = .ok (.aload_n 1, 1) := dk_43 (dk_at dksX0_faulty_0 9 rfl rfl)
theorem dX0_faulty_10 : decode cX0_faulty 10 = .ok (.getfield 191, 3) := dk_180 0 191 (dk_at dksX0_faulty_0 10 rfl rfl)
theorem dX0_faulty_13 : decode cX0_faulty 13 = .ok (.putfield 31, 3) := dk_181 0 31 (dk_at dksX0_faulty_0 13 rfl rfl)
theorem dX0_faulty_16 : decode cX0_faulty 16 = .ok (.aload_n 0, 1) := dk_42 (dk_at dksX0_faulty_0 16 rfl rfl)
theorem dX0_faulty_17 : decode cX0_faulty 17 = .ok (.bipush 9, 2) := dk_16 9 (dk_at dksX0_faulty_0 17 rfl rfl)
theorem dX0_faulty_19 : decode cX0_faulty 19 = .ok (.putfield 76, 3) := dk_181 0 76 (dk_at dksX0_faulty_0 19 rfl rfl)
theorem dX0_faulty_22 : decode cX0_faulty 22 = .ok (.iconst (-1), 1) := dk_2 (dk_at dksX0_faulty_0 22 rfl rfl)
theorem dX0_faulty_23 : decode cX0_faulty 23 = .ok (.ireturn, 1) := dk_172 (dk_at dksX0_faulty_0 23 rfl rfl)
abbrev cX0_years : ByteArray := prog_1_method_34_code
def yX0_years : MethodName := ⟨RX0, "years", "(I)I"⟩
def dkwX0_years_2 : List UInt8 := [181, 0, 208, 45, 180, 0, 223, 172, 77, 42, 44, 182, 0, 212, 172]
abbrev dktX0_years_2 : List UInt8 := dkwX0_years_2 ++ []
def dkwX0_years_1 : List UInt8 := [187, 0, 197, 89, 42, 27, 183, 0, 199, 78, 45, 42, 182, 0, 153, 44, 182, 0, 220, 42, 180, 0, 55, 44]
abbrev dktX0_years_1 : List UInt8 := dkwX0_years_1 ++ dktX0_years_2
def dkwX0_years_0 : List UInt8 := [42, 27, 17, 1, 44, 182, 0, 194, 154, 0, 5, 2, 172, 187, 0, 216, 89, 4, 183, 0, 218, 77]
abbrev dktX0_years_0 : List UInt8 := dkwX0_years_0 ++ dktX0_years_1
theorem dksX0_years_0 : cX0_years.data.toList.drop 0 = dktX0_years_0 := by decide +kernel
theorem dksX0_years_1 : cX0_years.data.toList.drop 22 = dktX0_years_1 := dk_seg dksX0_years_0 22 rfl rfl
theorem dksX0_years_2 : cX0_years.data.toList.drop 46 = dktX0_years_2 := dk_seg dksX0_years_1 24 rfl rfl
theorem dX0_years_0 : decode cX0_years 0 = .ok (.aload_n 0, 1) := dk_42 (dk_at dksX0_years_0 0 rfl rfl)
theorem dX0_years_1 : decode cX0_years 1 = .ok (.iload_n 1, 1) := dk_27 (dk_at dksX0_years_0 1 rfl rfl)
theorem dX0_years_2 : decode cX0_years 2 = .ok (.sipush 300, 3) := dk_17 1 44 (dk_at dksX0_years_0 2 rfl rfl)
theorem dX0_years_5 : decode cX0_years 5 = .ok (.invokevirtual 194, 3) := dk_182 0 194 (dk_at dksX0_years_0 5 rfl rfl)
theorem dX0_years_8 : decode cX0_years 8 = .ok (.ifCond .ne 5, 3) := dk_154 0 5 (dk_at dksX0_years_0 8 rfl rfl)
theorem dX0_years_11 : decode cX0_years 11 = .ok (.iconst (-1), 1) := dk_2 (dk_at dksX0_years_0 11 rfl rfl)
theorem dX0_years_12 : decode cX0_years 12 = .ok (.ireturn, 1) := dk_172 (dk_at dksX0_years_0 12 rfl rfl)
theorem dX0_years_13 : decode cX0_years 13 = .ok (.new 216, 3) := dk_187 0 216 (dk_at dksX0_years_0 13 rfl rfl)
theorem dX0_years_16 : decode cX0_years 16 = .ok (.dup, 1) := dk_89 (dk_at dksX0_years_0 16 rfl rfl)
theorem dX0_years_17 : decode cX0_years 17 = .ok (.iconst 1, 1) := dk_4 (dk_at dksX0_years_0 17 rfl rfl)
theorem dX0_years_18 : decode cX0_years 18 = .ok (.invokespecial 218, 3) := dk_183 0 218 (dk_at dksX0_years_0 18 rfl rfl)
theorem dX0_years_21 : decode cX0_years 21 = .ok (.astore_n 2, 1) := dk_77 (dk_at dksX0_years_0 21 rfl rfl)
theorem dX0_years_22 : decode cX0_years 22 = .ok (.new 197, 3) := dk_187 0 197 (dk_at dksX0_years_1 0 rfl rfl)
theorem dX0_years_25 : decode cX0_years 25 = .ok (.dup, 1) := dk_89 (dk_at dksX0_years_1 3 rfl rfl)
theorem dX0_years_26 : decode cX0_years 26 = .ok (.aload_n 0, 1) := dk_42 (dk_at dksX0_years_1 4 rfl rfl)
theorem dX0_years_27 : decode cX0_years 27 = .ok (.iload_n 1, 1) := dk_27 (dk_at dksX0_years_1 5 rfl rfl)
theorem dX0_years_28 : decode cX0_years 28 = .ok (.invokespecial 199, 3) := dk_183 0 199 (dk_at dksX0_years_1 6 rfl rfl)
theorem dX0_years_31 : decode cX0_years 31 = .ok (.astore_n 3, 1) := dk_78 (dk_at dksX0_years_1 9 rfl rfl)
theorem dX0_years_32 : decode cX0_years 32 = .ok (.aload_n 3, 1) := dk_45 (dk_at dksX0_years_1 10 rfl rfl)
theorem dX0_years_33 : decode cX0_years 33 = .ok (.aload_n 0, 1) := dk_42 (dk_at dksX0_years_1 11 rfl rfl)
theorem dX0_years_34 : decode cX0_years 34 = .ok (.invokevirtual 153, 3) := dk_182 0 153 (dk_at dksX0_years_1 12 rfl rfl)
theorem dX0_years_37 : decode cX0_years 37 = .ok (.aload_n 2, 1) := dk_44 (dk_at dksX0_years_1 15 rfl rfl)
theorem dX0_years_38 : decode cX0_years 38 = .ok (.invokevirtual 220, 3) := dk_182 0 220 (dk_at dksX0_years_1 16 rfl rfl)
theorem dX0_years_41 : decode cX0_years 41 = .ok (.aload_n 0, 1) := dk_42 (dk_at dksX0_years_1 19 rfl rfl)
theorem dX0_years_42 : decode cX0_years 42 = .ok (.getfield 55, 3) := dk_180 0 55 (dk_at dksX0_years_1 20 rfl rfl)
theorem dX0_years_45 : decode cX0_years 45 = .ok (.aload_n 2, 1) := dk_44 (dk_at dksX0_years_1 23 rfl rfl)
theorem dX0_years_46 : decode cX0_years 46 = .ok (.putfield 208, 3) := dk_181 0 208 (dk_at dksX0_years_2 0 rfl rfl)
theorem dX0_years_49 : decode cX0_years 49 = .ok (.aload_n 3, 1) := dk_45 (dk_at dksX0_years_2 3 rfl rfl)
theorem dX0_years_50 : decode cX0_years 50 = .ok (.getfield 223, 3) := dk_180 0 223 (dk_at dksX0_years_2 4 rfl rfl)
theorem dX0_years_53 : decode cX0_years 53 = .ok (.ireturn, 1) := dk_172 (dk_at dksX0_years_2 7 rfl rfl)
theorem dX0_years_54 : decode cX0_years 54 = .ok (.astore_n 2, 1) := dk_77 (dk_at dksX0_years_2 8 rfl rfl)
theorem dX0_years_55 : decode cX0_years 55 = .ok (.aload_n 0, 1) := dk_42 (dk_at dksX0_years_2 9 rfl rfl)
theorem dX0_years_56 : decode cX0_years 56 = .ok (.aload_n 2, 1) := dk_44 (dk_at dksX0_years_2 10 rfl rfl)
theorem dX0_years_57 : decode cX0_years 57 = .ok (.invokevirtual 212, 3) := dk_182 0 212 (dk_at dksX0_years_2 11 rfl rfl)
theorem dX0_years_60 : decode cX0_years 60 = .ok (.ireturn, 1) := dk_172 (dk_at dksX0_years_2 14 rfl rfl)
abbrev cX0_fault : ByteArray := prog_1_method_35_code
def yX0_fault : MethodName := ⟨RX0, "fault", "(I)I"⟩
def dkwX0_fault_1 : List UInt8 := [172]
abbrev dktX0_fault_1 : List UInt8 := dkwX0_fault_1 ++ []
def dkwX0_fault_0 : List UInt8 := [27, 154, 0, 10, 42, 180, 0, 27, 167, 0, 16, 27, 4, 160, 0, 10, 42, 180, 0, 31, 167, 0, 4, 2]
abbrev dktX0_fault_0 : List UInt8 := dkwX0_fault_0 ++ dktX0_fault_1
theorem dksX0_fault_0 : cX0_fault.data.toList.drop 0 = dktX0_fault_0 := by decide +kernel
theorem dksX0_fault_1 : cX0_fault.data.toList.drop 24 = dktX0_fault_1 := dk_seg dksX0_fault_0 24 rfl rfl
theorem dX0_fault_0 : decode cX0_fault 0 = .ok (.iload_n 1, 1) := dk_27 (dk_at dksX0_fault_0 0 rfl rfl)
theorem dX0_fault_1 : decode cX0_fault 1 = .ok (.ifCond .ne 10, 3) := dk_154 0 10 (dk_at dksX0_fault_0 1 rfl rfl)
theorem dX0_fault_4 : decode cX0_fault 4 = .ok (.aload_n 0, 1) := dk_42 (dk_at dksX0_fault_0 4 rfl rfl)
theorem dX0_fault_5 : decode cX0_fault 5 = .ok (.getfield 27, 3) := dk_180 0 27 (dk_at dksX0_fault_0 5 rfl rfl)
theorem dX0_fault_8 : decode cX0_fault 8 = .ok (.goto 16, 3) := dk_167 0 16 (dk_at dksX0_fault_0 8 rfl rfl)
theorem dX0_fault_11 : decode cX0_fault 11 = .ok (.iload_n 1, 1) := dk_27 (dk_at dksX0_fault_0 11 rfl rfl)
theorem dX0_fault_12 : decode cX0_fault 12 = .ok (.iconst 1, 1) := dk_4 (dk_at dksX0_fault_0 12 rfl rfl)
theorem dX0_fault_13 : decode cX0_fault 13 = .ok (.if_icmp .ne 10, 3) := dk_160 0 10 (dk_at dksX0_fault_0 13 rfl rfl)
theorem dX0_fault_16 : decode cX0_fault 16 = .ok (.aload_n 0, 1) := dk_42 (dk_at dksX0_fault_0 16 rfl rfl)
theorem dX0_fault_17 : decode cX0_fault 17 = .ok (.getfield 31, 3) := dk_180 0 31 (dk_at dksX0_fault_0 17 rfl rfl)
theorem dX0_fault_20 : decode cX0_fault 20 = .ok (.goto 4, 3) := dk_167 0 4 (dk_at dksX0_fault_0 20 rfl rfl)
theorem dX0_fault_23 : decode cX0_fault 23 = .ok (.iconst (-1), 1) := dk_2 (dk_at dksX0_fault_0 23 rfl rfl)
theorem dX0_fault_24 : decode cX0_fault 24 = .ok (.ireturn, 1) := dk_172 (dk_at dksX0_fault_1 0 rfl rfl)
abbrev cX0_told : ByteArray := prog_1_method_36_code
def yX0_told : MethodName := ⟨RX0, "told", "(I)I"⟩
def dkwX0_told_5 : List UInt8 := [2, 172]
abbrev dktX0_told_5 : List UInt8 := dkwX0_told_5 ++ []
def dkwX0_told_4 : List UInt8 := [42, 182, 0, 153, 180, 0, 174, 172, 42, 182, 0, 153, 180, 0, 240, 172, 42, 182, 0, 153, 182, 0, 243, 172]
abbrev dktX0_told_4 : List UInt8 := dkwX0_told_4 ++ dktX0_told_5
def dkwX0_told_3 : List UInt8 := [42, 182, 0, 153, 180, 0, 231, 172, 42, 182, 0, 153, 180, 0, 234, 172, 42, 182, 0, 153, 180, 0, 237, 172]
abbrev dktX0_told_3 : List UInt8 := dkwX0_told_3 ++ dktX0_told_4
def dkwX0_told_2 : List UInt8 := [42, 182, 0, 153, 180, 0, 157, 172, 42, 182, 0, 153, 180, 0, 164, 172, 42, 182, 0, 153, 180, 0, 228, 172]
abbrev dktX0_told_2 : List UInt8 := dkwX0_told_2 ++ dktX0_told_3
def dkwX0_told_1 : List UInt8 := [170, 0, 0, 0, 0, 122, 0, 0, 0, 0, 0, 0, 0, 8, 0, 0, 0, 50, 0, 0, 0, 58, 0, 0, 0, 66, 0, 0, 0, 74, 0, 0, 0, 82, 0, 0, 0, 90, 0, 0, 0, 98, 0, 0, 0, 106, 0, 0, 0, 114]
abbrev dktX0_told_1 : List UInt8 := dkwX0_told_1 ++ dktX0_told_2
def dkwX0_told_0 : List UInt8 := [42, 27, 133, 9, 20, 0, 226, 184, 0, 160, 153, 0, 7, 3, 167, 0, 4, 4, 181, 0, 76, 27]
abbrev dktX0_told_0 : List UInt8 := dkwX0_told_0 ++ dktX0_told_1
theorem dksX0_told_0 : cX0_told.data.toList.drop 0 = dktX0_told_0 := by decide +kernel
theorem dksX0_told_1 : cX0_told.data.toList.drop 22 = dktX0_told_1 := dk_seg dksX0_told_0 22 rfl rfl
theorem dksX0_told_2 : cX0_told.data.toList.drop 72 = dktX0_told_2 := dk_seg dksX0_told_1 50 rfl rfl
theorem dksX0_told_3 : cX0_told.data.toList.drop 96 = dktX0_told_3 := dk_seg dksX0_told_2 24 rfl rfl
theorem dksX0_told_4 : cX0_told.data.toList.drop 120 = dktX0_told_4 := dk_seg dksX0_told_3 24 rfl rfl
theorem dksX0_told_5 : cX0_told.data.toList.drop 144 = dktX0_told_5 := dk_seg dksX0_told_4 24 rfl rfl
theorem dX0_told_0 : decode cX0_told 0 = .ok (.aload_n 0, 1) := dk_42 (dk_at dksX0_told_0 0 rfl rfl)
theorem dX0_told_1 : decode cX0_told 1 = .ok (.iload_n 1, 1) := dk_27 (dk_at dksX0_told_0 1 rfl rfl)
theorem dX0_told_2 : decode cX0_told 2 = .ok (.i2l, 1) := dk_133 (dk_at dksX0_told_0 2 rfl rfl)
theorem dX0_told_3 : decode cX0_told 3 = .ok (.lconst 0, 1) := dk_9 (dk_at dksX0_told_0 3 rfl rfl)
theorem dX0_told_4 : decode cX0_told 4 = .ok (.ldc2_w 226, 3) := dk_20 0 226 (dk_at dksX0_told_0 4 rfl rfl)
theorem dX0_told_7 : decode cX0_told 7 = .ok (.invokestatic 160, 3) := dk_184 0 160 (dk_at dksX0_told_0 7 rfl rfl)
theorem dX0_told_10 : decode cX0_told 10 = .ok (.ifCond .eq 7, 3) := dk_153 0 7 (dk_at dksX0_told_0 10 rfl rfl)
theorem dX0_told_13 : decode cX0_told 13 = .ok (.iconst 0, 1) := dk_3 (dk_at dksX0_told_0 13 rfl rfl)
theorem dX0_told_14 : decode cX0_told 14 = .ok (.goto 4, 3) := dk_167 0 4 (dk_at dksX0_told_0 14 rfl rfl)
theorem dX0_told_17 : decode cX0_told 17 = .ok (.iconst 1, 1) := dk_4 (dk_at dksX0_told_0 17 rfl rfl)
theorem dX0_told_18 : decode cX0_told 18 = .ok (.putfield 76, 3) := dk_181 0 76 (dk_at dksX0_told_0 18 rfl rfl)
theorem dX0_told_21 : decode cX0_told 21 = .ok (.iload_n 1, 1) := dk_27 (dk_at dksX0_told_0 21 rfl rfl)
theorem dX0_told_22 : decode cX0_told 22 = .ok (.tableswitch 122 0 8 #[50, 58, 66, 74, 82, 90, 98, 106, 114], 50) := by decide +kernel
theorem dX0_told_72 : decode cX0_told 72 = .ok (.aload_n 0, 1) := dk_42 (dk_at dksX0_told_2 0 rfl rfl)
theorem dX0_told_73 : decode cX0_told 73 = .ok (.invokevirtual 153, 3) := dk_182 0 153 (dk_at dksX0_told_2 1 rfl rfl)
theorem dX0_told_76 : decode cX0_told 76 = .ok (.getfield 157, 3) := dk_180 0 157 (dk_at dksX0_told_2 4 rfl rfl)
theorem dX0_told_79 : decode cX0_told 79 = .ok (.ireturn, 1) := dk_172 (dk_at dksX0_told_2 7 rfl rfl)
theorem dX0_told_80 : decode cX0_told 80 = .ok (.aload_n 0, 1) := dk_42 (dk_at dksX0_told_2 8 rfl rfl)
theorem dX0_told_81 : decode cX0_told 81 = .ok (.invokevirtual 153, 3) := dk_182 0 153 (dk_at dksX0_told_2 9 rfl rfl)
theorem dX0_told_84 : decode cX0_told 84 = .ok (.getfield 164, 3) := dk_180 0 164 (dk_at dksX0_told_2 12 rfl rfl)
theorem dX0_told_87 : decode cX0_told 87 = .ok (.ireturn, 1) := dk_172 (dk_at dksX0_told_2 15 rfl rfl)
theorem dX0_told_88 : decode cX0_told 88 = .ok (.aload_n 0, 1) := dk_42 (dk_at dksX0_told_2 16 rfl rfl)
theorem dX0_told_89 : decode cX0_told 89 = .ok (.invokevirtual 153, 3) := dk_182 0 153 (dk_at dksX0_told_2 17 rfl rfl)
theorem dX0_told_92 : decode cX0_told 92 = .ok (.getfield 228, 3) := dk_180 0 228 (dk_at dksX0_told_2 20 rfl rfl)
theorem dX0_told_95 : decode cX0_told 95 = .ok (.ireturn, 1) := dk_172 (dk_at dksX0_told_2 23 rfl rfl)
theorem dX0_told_96 : decode cX0_told 96 = .ok (.aload_n 0, 1) := dk_42 (dk_at dksX0_told_3 0 rfl rfl)
theorem dX0_told_97 : decode cX0_told 97 = .ok (.invokevirtual 153, 3) := dk_182 0 153 (dk_at dksX0_told_3 1 rfl rfl)
theorem dX0_told_100 : decode cX0_told 100 = .ok (.getfield 231, 3) := dk_180 0 231 (dk_at dksX0_told_3 4 rfl rfl)
theorem dX0_told_103 : decode cX0_told 103 = .ok (.ireturn, 1) := dk_172 (dk_at dksX0_told_3 7 rfl rfl)
theorem dX0_told_104 : decode cX0_told 104 = .ok (.aload_n 0, 1) := dk_42 (dk_at dksX0_told_3 8 rfl rfl)
theorem dX0_told_105 : decode cX0_told 105 = .ok (.invokevirtual 153, 3) := dk_182 0 153 (dk_at dksX0_told_3 9 rfl rfl)
theorem dX0_told_108 : decode cX0_told 108 = .ok (.getfield 234, 3) := dk_180 0 234 (dk_at dksX0_told_3 12 rfl rfl)
theorem dX0_told_111 : decode cX0_told 111 = .ok (.ireturn, 1) := dk_172 (dk_at dksX0_told_3 15 rfl rfl)
theorem dX0_told_112 : decode cX0_told 112 = .ok (.aload_n 0, 1) := dk_42 (dk_at dksX0_told_3 16 rfl rfl)
theorem dX0_told_113 : decode cX0_told 113 = .ok (.invokevirtual 153, 3) := dk_182 0 153 (dk_at dksX0_told_3 17 rfl rfl)
theorem dX0_told_116 : decode cX0_told 116 = .ok (.getfield 237, 3) := dk_180 0 237 (dk_at dksX0_told_3 20 rfl rfl)
theorem dX0_told_119 : decode cX0_told 119 = .ok (.ireturn, 1) := dk_172 (dk_at dksX0_told_3 23 rfl rfl)
theorem dX0_told_120 : decode cX0_told 120 = .ok (.aload_n 0, 1) := dk_42 (dk_at dksX0_told_4 0 rfl rfl)
theorem dX0_told_121 : decode cX0_told 121 = .ok (.invokevirtual 153, 3) := dk_182 0 153 (dk_at dksX0_told_4 1 rfl rfl)
theorem dX0_told_124 : decode cX0_told 124 = .ok (.getfield 174, 3) := dk_180 0 174 (dk_at dksX0_told_4 4 rfl rfl)
theorem dX0_told_127 : decode cX0_told 127 = .ok (.ireturn, 1) := dk_172 (dk_at dksX0_told_4 7 rfl rfl)
theorem dX0_told_128 : decode cX0_told 128 = .ok (.aload_n 0, 1) := dk_42 (dk_at dksX0_told_4 8 rfl rfl)
theorem dX0_told_129 : decode cX0_told 129 = .ok (.invokevirtual 153, 3) := dk_182 0 153 (dk_at dksX0_told_4 9 rfl rfl)
theorem dX0_told_132 : decode cX0_told 132 = .ok (.getfield 240, 3) := dk_180 0 240 (dk_at dksX0_told_4 12 rfl rfl)
theorem dX0_told_135 : decode cX0_told 135 = .ok (.ireturn, 1) := dk_172 (dk_at dksX0_told_4 15 rfl rfl)
theorem dX0_told_136 : decode cX0_told 136 = .ok (.aload_n 0, 1) := dk_42 (dk_at dksX0_told_4 16 rfl rfl)
theorem dX0_told_137 : decode cX0_told 137 = .ok (.invokevirtual 153, 3) := dk_182 0 153 (dk_at dksX0_told_4 17 rfl rfl)
theorem dX0_told_140 : decode cX0_told 140 = .ok (.invokevirtual 243, 3) := dk_182 0 243 (dk_at dksX0_told_4 20 rfl rfl)
theorem dX0_told_143 : decode cX0_told 143 = .ok (.ireturn, 1) := dk_172 (dk_at dksX0_told_4 23 rfl rfl)
theorem dX0_told_144 : decode cX0_told 144 = .ok (.iconst (-1), 1) := dk_2 (dk_at dksX0_told_5 0 rfl rfl)
theorem dX0_told_145 : decode cX0_told 145 = .ok (.ireturn, 1) := dk_172 (dk_at dksX0_told_5 1 rfl rfl)
abbrev cX0_isIn : ByteArray := prog_1_method_20_code
def yX0_isIn : MethodName := ⟨RX0, "isIn", "(JJJ)Z"⟩
def dkwX0_isIn_0 : List UInt8 := [30, 32, 148, 155, 0, 14, 30, 22, 4, 148, 157, 0, 7, 4, 167, 0, 4, 3, 172]
abbrev dktX0_isIn_0 : List UInt8 := dkwX0_isIn_0 ++ []
theorem dksX0_isIn_0 : cX0_isIn.data.toList.drop 0 = dktX0_isIn_0 := by decide +kernel
theorem dX0_isIn_0 : decode cX0_isIn 0 = .ok (.lload_n 0, 1) := dk_30 (dk_at dksX0_isIn_0 0 rfl rfl)
theorem dX0_isIn_1 : decode cX0_isIn 1 = .ok (.lload_n 2, 1) := dk_32 (dk_at dksX0_isIn_0 1 rfl rfl)
theorem dX0_isIn_2 : decode cX0_isIn 2 = .ok (.lcmp, 1) := dk_148 (dk_at dksX0_isIn_0 2 rfl rfl)
theorem dX0_isIn_3 : decode cX0_isIn 3 = .ok (.ifCond .lt 14, 3) := dk_155 0 14 (dk_at dksX0_isIn_0 3 rfl rfl)
theorem dX0_isIn_6 : decode cX0_isIn 6 = .ok (.lload_n 0, 1) := dk_30 (dk_at dksX0_isIn_0 6 rfl rfl)
theorem dX0_isIn_7 : decode cX0_isIn 7 = .ok (.lload 4, 2) := dk_22 4 (dk_at dksX0_isIn_0 7 rfl rfl)
theorem dX0_isIn_9 : decode cX0_isIn 9 = .ok (.lcmp, 1) := dk_148 (dk_at dksX0_isIn_0 9 rfl rfl)
theorem dX0_isIn_10 : decode cX0_isIn 10 = .ok (.ifCond .gt 7, 3) := dk_157 0 7 (dk_at dksX0_isIn_0 10 rfl rfl)
theorem dX0_isIn_13 : decode cX0_isIn 13 = .ok (.iconst 1, 1) := dk_4 (dk_at dksX0_isIn_0 13 rfl rfl)
theorem dX0_isIn_14 : decode cX0_isIn 14 = .ok (.goto 4, 3) := dk_167 0 4 (dk_at dksX0_isIn_0 14 rfl rfl)
theorem dX0_isIn_17 : decode cX0_isIn 17 = .ok (.iconst 0, 1) := dk_3 (dk_at dksX0_isIn_0 17 rfl rfl)
theorem dX0_isIn_18 : decode cX0_isIn 18 = .ok (.ireturn, 1) := dk_172 (dk_at dksX0_isIn_0 18 rfl rfl)
abbrev cX0_omen : ByteArray := prog_1_method_38_code
def yX0_omen : MethodName := ⟨RX0, "omen", "(II)I"⟩
def dkwX0_omen_3 : List UInt8 := [167, 0, 8, 42, 27, 182, 1, 2, 172]
abbrev dktX0_omen_3 : List UInt8 := dkwX0_omen_3 ++ []
def dkwX0_omen_2 : List UInt8 := [180, 0, 255, 27, 46, 167, 0, 27, 28, 4, 160, 0, 17, 42, 182, 0, 153, 180, 0, 240, 27, 122, 4, 126]
abbrev dktX0_omen_2 : List UInt8 := dkwX0_omen_2 ++ dktX0_omen_3
def dkwX0_omen_1 : List UInt8 := [167, 0, 4, 4, 181, 0, 76, 42, 180, 0, 76, 158, 0, 5, 2, 172, 28, 154, 0, 15, 42, 182, 0, 153]
abbrev dktX0_omen_1 : List UInt8 := dkwX0_omen_1 ++ dktX0_omen_2
def dkwX0_omen_0 : List UInt8 := [42, 42, 27, 182, 0, 249, 153, 0, 19, 28, 133, 9, 20, 0, 253, 184, 0, 160, 153, 0, 7, 3]
abbrev dktX0_omen_0 : List UInt8 := dkwX0_omen_0 ++ dktX0_omen_1
theorem dksX0_omen_0 : cX0_omen.data.toList.drop 0 = dktX0_omen_0 := by decide +kernel
theorem dksX0_omen_1 : cX0_omen.data.toList.drop 22 = dktX0_omen_1 := dk_seg dksX0_omen_0 22 rfl rfl
theorem dksX0_omen_2 : cX0_omen.data.toList.drop 46 = dktX0_omen_2 := dk_seg dksX0_omen_1 24 rfl rfl
theorem dksX0_omen_3 : cX0_omen.data.toList.drop 70 = dktX0_omen_3 := dk_seg dksX0_omen_2 24 rfl rfl
theorem dX0_omen_0 : decode cX0_omen 0 = .ok (.aload_n 0, 1) := dk_42 (dk_at dksX0_omen_0 0 rfl rfl)
theorem dX0_omen_1 : decode cX0_omen 1 = .ok (.aload_n 0, 1) := dk_42 (dk_at dksX0_omen_0 1 rfl rfl)
theorem dX0_omen_2 : decode cX0_omen 2 = .ok (.iload_n 1, 1) := dk_27 (dk_at dksX0_omen_0 2 rfl rfl)
theorem dX0_omen_3 : decode cX0_omen 3 = .ok (.invokevirtual 249, 3) := dk_182 0 249 (dk_at dksX0_omen_0 3 rfl rfl)
theorem dX0_omen_6 : decode cX0_omen 6 = .ok (.ifCond .eq 19, 3) := dk_153 0 19 (dk_at dksX0_omen_0 6 rfl rfl)
theorem dX0_omen_9 : decode cX0_omen 9 = .ok (.iload_n 2, 1) := dk_28 (dk_at dksX0_omen_0 9 rfl rfl)
theorem dX0_omen_10 : decode cX0_omen 10 = .ok (.i2l, 1) := dk_133 (dk_at dksX0_omen_0 10 rfl rfl)
theorem dX0_omen_11 : decode cX0_omen 11 = .ok (.lconst 0, 1) := dk_9 (dk_at dksX0_omen_0 11 rfl rfl)
theorem dX0_omen_12 : decode cX0_omen 12 = .ok (.ldc2_w 253, 3) := dk_20 0 253 (dk_at dksX0_omen_0 12 rfl rfl)
theorem dX0_omen_15 : decode cX0_omen 15 = .ok (.invokestatic 160, 3) := dk_184 0 160 (dk_at dksX0_omen_0 15 rfl rfl)
theorem dX0_omen_18 : decode cX0_omen 18 = .ok (.ifCond .eq 7, 3) := dk_153 0 7 (dk_at dksX0_omen_0 18 rfl rfl)
theorem dX0_omen_21 : decode cX0_omen 21 = .ok (.iconst 0, 1) := dk_3 (dk_at dksX0_omen_0 21 rfl rfl)
theorem dX0_omen_22 : decode cX0_omen 22 = .ok (.goto 4, 3) := dk_167 0 4 (dk_at dksX0_omen_1 0 rfl rfl)
theorem dX0_omen_25 : decode cX0_omen 25 = .ok (.iconst 1, 1) := dk_4 (dk_at dksX0_omen_1 3 rfl rfl)
theorem dX0_omen_26 : decode cX0_omen 26 = .ok (.putfield 76, 3) := dk_181 0 76 (dk_at dksX0_omen_1 4 rfl rfl)
theorem dX0_omen_29 : decode cX0_omen 29 = .ok (.aload_n 0, 1) := dk_42 (dk_at dksX0_omen_1 7 rfl rfl)
theorem dX0_omen_30 : decode cX0_omen 30 = .ok (.getfield 76, 3) := dk_180 0 76 (dk_at dksX0_omen_1 8 rfl rfl)
theorem dX0_omen_33 : decode cX0_omen 33 = .ok (.ifCond .le 5, 3) := dk_158 0 5 (dk_at dksX0_omen_1 11 rfl rfl)
theorem dX0_omen_36 : decode cX0_omen 36 = .ok (.iconst (-1), 1) := dk_2 (dk_at dksX0_omen_1 14 rfl rfl)
theorem dX0_omen_37 : decode cX0_omen 37 = .ok (.ireturn, 1) := dk_172 (dk_at dksX0_omen_1 15 rfl rfl)
theorem dX0_omen_38 : decode cX0_omen 38 = .ok (.iload_n 2, 1) := dk_28 (dk_at dksX0_omen_1 16 rfl rfl)
theorem dX0_omen_39 : decode cX0_omen 39 = .ok (.ifCond .ne 15, 3) := dk_154 0 15 (dk_at dksX0_omen_1 17 rfl rfl)
theorem dX0_omen_42 : decode cX0_omen 42 = .ok (.aload_n 0, 1) := dk_42 (dk_at dksX0_omen_1 20 rfl rfl)
theorem dX0_omen_43 : decode cX0_omen 43 = .ok (.invokevirtual 153, 3) := dk_182 0 153 (dk_at dksX0_omen_1 21 rfl rfl)
theorem dX0_omen_46 : decode cX0_omen 46 = .ok (.getfield 255, 3) := dk_180 0 255 (dk_at dksX0_omen_2 0 rfl rfl)
theorem dX0_omen_49 : decode cX0_omen 49 = .ok (.iload_n 1, 1) := dk_27 (dk_at dksX0_omen_2 3 rfl rfl)
theorem dX0_omen_50 : decode cX0_omen 50 = .ok (.iaload, 1) := dk_46 (dk_at dksX0_omen_2 4 rfl rfl)
theorem dX0_omen_51 : decode cX0_omen 51 = .ok (.goto 27, 3) := dk_167 0 27 (dk_at dksX0_omen_2 5 rfl rfl)
theorem dX0_omen_54 : decode cX0_omen 54 = .ok (.iload_n 2, 1) := dk_28 (dk_at dksX0_omen_2 8 rfl rfl)
theorem dX0_omen_55 : decode cX0_omen 55 = .ok (.iconst 1, 1) := dk_4 (dk_at dksX0_omen_2 9 rfl rfl)
theorem dX0_omen_56 : decode cX0_omen 56 = .ok (.if_icmp .ne 17, 3) := dk_160 0 17 (dk_at dksX0_omen_2 10 rfl rfl)
theorem dX0_omen_59 : decode cX0_omen 59 = .ok (.aload_n 0, 1) := dk_42 (dk_at dksX0_omen_2 13 rfl rfl)
theorem dX0_omen_60 : decode cX0_omen 60 = .ok (.invokevirtual 153, 3) := dk_182 0 153 (dk_at dksX0_omen_2 14 rfl rfl)
theorem dX0_omen_63 : decode cX0_omen 63 = .ok (.getfield 240, 3) := dk_180 0 240 (dk_at dksX0_omen_2 17 rfl rfl)
theorem dX0_omen_66 : decode cX0_omen 66 = .ok (.iload_n 1, 1) := dk_27 (dk_at dksX0_omen_2 20 rfl rfl)
theorem dX0_omen_67 : decode cX0_omen 67 = .ok (.ishr, 1) := dk_122 (dk_at dksX0_omen_2 21 rfl rfl)
theorem dX0_omen_68 : decode cX0_omen 68 = .ok (.iconst 1, 1) := dk_4 (dk_at dksX0_omen_2 22 rfl rfl)
theorem dX0_omen_69 : decode cX0_omen 69 = .ok (.iand, 1) := dk_126 (dk_at dksX0_omen_2 23 rfl rfl)
theorem dX0_omen_70 : decode cX0_omen 70 = .ok (.goto 8, 3) := dk_167 0 8 (dk_at dksX0_omen_3 0 rfl rfl)
theorem dX0_omen_73 : decode cX0_omen 73 = .ok (.aload_n 0, 1) := dk_42 (dk_at dksX0_omen_3 3 rfl rfl)
theorem dX0_omen_74 : decode cX0_omen 74 = .ok (.iload_n 1, 1) := dk_27 (dk_at dksX0_omen_3 4 rfl rfl)
theorem dX0_omen_75 : decode cX0_omen 75 = .ok (.invokevirtual 258, 3) := dk_182 1 2 (dk_at dksX0_omen_3 5 rfl rfl)
theorem dX0_omen_78 : decode cX0_omen 78 = .ok (.ireturn, 1) := dk_172 (dk_at dksX0_omen_3 8 rfl rfl)
abbrev cX0_isOmen : ByteArray := prog_1_method_22_code
def yX0_isOmen : MethodName := ⟨RX0, "isOmen", "(I)Z"⟩
def dkwX0_isOmen_0 : List UInt8 := [27, 133, 9, 42, 182, 0, 153, 180, 0, 157, 4, 100, 133, 184, 0, 160, 172]
abbrev dktX0_isOmen_0 : List UInt8 := dkwX0_isOmen_0 ++ []
theorem dksX0_isOmen_0 : cX0_isOmen.data.toList.drop 0 = dktX0_isOmen_0 := by decide +kernel
theorem dX0_isOmen_0 : decode cX0_isOmen 0 = .ok (.iload_n 1, 1) := dk_27 (dk_at dksX0_isOmen_0 0 rfl rfl)
theorem dX0_isOmen_1 : decode cX0_isOmen 1 = .ok (.i2l, 1) := dk_133 (dk_at dksX0_isOmen_0 1 rfl rfl)
theorem dX0_isOmen_2 : decode cX0_isOmen 2 = .ok (.lconst 0, 1) := dk_9 (dk_at dksX0_isOmen_0 2 rfl rfl)
theorem dX0_isOmen_3 : decode cX0_isOmen 3 = .ok (.aload_n 0, 1) := dk_42 (dk_at dksX0_isOmen_0 3 rfl rfl)
theorem dX0_isOmen_4 : decode cX0_isOmen 4 = .ok (.invokevirtual 153, 3) := dk_182 0 153 (dk_at dksX0_isOmen_0 4 rfl rfl)
theorem dX0_isOmen_7 : decode cX0_isOmen 7 = .ok (.getfield 157, 3) := dk_180 0 157 (dk_at dksX0_isOmen_0 7 rfl rfl)
theorem dX0_isOmen_10 : decode cX0_isOmen 10 = .ok (.iconst 1, 1) := dk_4 (dk_at dksX0_isOmen_0 10 rfl rfl)
theorem dX0_isOmen_11 : decode cX0_isOmen 11 = .ok (.isub, 1) := dk_100 (dk_at dksX0_isOmen_0 11 rfl rfl)
theorem dX0_isOmen_12 : decode cX0_isOmen 12 = .ok (.i2l, 1) := dk_133 (dk_at dksX0_isOmen_0 12 rfl rfl)
theorem dX0_isOmen_13 : decode cX0_isOmen 13 = .ok (.invokestatic 160, 3) := dk_184 0 160 (dk_at dksX0_isOmen_0 13 rfl rfl)
theorem dX0_isOmen_16 : decode cX0_isOmen 16 = .ok (.ireturn, 1) := dk_172 (dk_at dksX0_isOmen_0 16 rfl rfl)
abbrev cX0_excusedFrom : ByteArray := prog_1_method_37_code
def yX0_excusedFrom : MethodName := ⟨RX0, "excusedFrom", "(I)I"⟩
def dkwX0_excusedFrom_2 : List UInt8 := [172]
abbrev dktX0_excusedFrom_2 : List UInt8 := dkwX0_excusedFrom_2 ++ []
def dkwX0_excusedFrom_1 : List UInt8 := [46, 27, 184, 0, 177, 153, 0, 9, 4, 29, 120, 167, 0, 4, 3, 128, 61, 132, 3, 1, 167, 255, 216, 28]
abbrev dktX0_excusedFrom_1 : List UInt8 := dkwX0_excusedFrom_1 ++ dktX0_excusedFrom_2
def dkwX0_excusedFrom_0 : List UInt8 := [3, 61, 3, 62, 29, 42, 182, 0, 153, 180, 0, 164, 162, 0, 35, 28, 42, 182, 0, 153, 180, 0, 246, 29]
abbrev dktX0_excusedFrom_0 : List UInt8 := dkwX0_excusedFrom_0 ++ dktX0_excusedFrom_1
theorem dksX0_excusedFrom_0 : cX0_excusedFrom.data.toList.drop 0 = dktX0_excusedFrom_0 := by decide +kernel
theorem dksX0_excusedFrom_1 : cX0_excusedFrom.data.toList.drop 24 = dktX0_excusedFrom_1 := dk_seg dksX0_excusedFrom_0 24 rfl rfl
theorem dksX0_excusedFrom_2 : cX0_excusedFrom.data.toList.drop 48 = dktX0_excusedFrom_2 := dk_seg dksX0_excusedFrom_1 24 rfl rfl
theorem dX0_excusedFrom_0 : decode cX0_excusedFrom 0 = .ok (.iconst 0, 1) := dk_3 (dk_at dksX0_excusedFrom_0 0 rfl rfl)
theorem dX0_excusedFrom_1 : decode cX0_excusedFrom 1 = .ok (.istore_n 2, 1) := dk_61 (dk_at dksX0_excusedFrom_0 1 rfl rfl)
theorem dX0_excusedFrom_2 : decode cX0_excusedFrom 2 = .ok (.iconst 0, 1) := dk_3 (dk_at dksX0_excusedFrom_0 2 rfl rfl)
theorem dX0_excusedFrom_3 : decode cX0_excusedFrom 3 = .ok (.istore_n 3, 1) := dk_62 (dk_at dksX0_excusedFrom_0 3 rfl rfl)
theorem dX0_excusedFrom_4 : decode cX0_excusedFrom 4 = .ok (.iload_n 3, 1) := dk_29 (dk_at dksX0_excusedFrom_0 4 rfl rfl)
theorem dX0_excusedFrom_5 : decode cX0_excusedFrom 5 = .ok (.aload_n 0, 1) := dk_42 (dk_at dksX0_excusedFrom_0 5 rfl rfl)
theorem dX0_excusedFrom_6 : decode cX0_excusedFrom 6 = .ok (.invokevirtual 153, 3) := dk_182 0 153 (dk_at dksX0_excusedFrom_0 6 rfl rfl)
theorem dX0_excusedFrom_9 : decode cX0_excusedFrom 9 = .ok (.getfield 164, 3) := dk_180 0 164 (dk_at dksX0_excusedFrom_0 9 rfl rfl)
theorem dX0_excusedFrom_12 : decode cX0_excusedFrom 12 = .ok (.if_icmp .ge 35, 3) := dk_162 0 35 (dk_at dksX0_excusedFrom_0 12 rfl rfl)
theorem dX0_excusedFrom_15 : decode cX0_excusedFrom 15 = .ok (.iload_n 2, 1) := dk_28 (dk_at dksX0_excusedFrom_0 15 rfl rfl)
theorem dX0_excusedFrom_16 : decode cX0_excusedFrom 16 = .ok (.aload_n 0, 1) := dk_42 (dk_at dksX0_excusedFrom_0 16 rfl rfl)
theorem dX0_excusedFrom_17 : decode cX0_excusedFrom 17 = .ok (.invokevirtual 153, 3) := dk_182 0 153 (dk_at dksX0_excusedFrom_0 17 rfl rfl)
theorem dX0_excusedFrom_20 : decode cX0_excusedFrom 20 = .ok (.getfield 246, 3) := dk_180 0 246 (dk_at dksX0_excusedFrom_0 20 rfl rfl)
theorem dX0_excusedFrom_23 : decode cX0_excusedFrom 23 = .ok (.iload_n 3, 1) := dk_29 (dk_at dksX0_excusedFrom_0 23 rfl rfl)
theorem dX0_excusedFrom_24 : decode cX0_excusedFrom 24 = .ok (.iaload, 1) := dk_46 (dk_at dksX0_excusedFrom_1 0 rfl rfl)
theorem dX0_excusedFrom_25 : decode cX0_excusedFrom 25 = .ok (.iload_n 1, 1) := dk_27 (dk_at dksX0_excusedFrom_1 1 rfl rfl)
theorem dX0_excusedFrom_26 : decode cX0_excusedFrom 26 = .ok (.invokestatic 177, 3) := dk_184 0 177 (dk_at dksX0_excusedFrom_1 2 rfl rfl)
theorem dX0_excusedFrom_29 : decode cX0_excusedFrom 29 = .ok (.ifCond .eq 9, 3) := dk_153 0 9 (dk_at dksX0_excusedFrom_1 5 rfl rfl)
theorem dX0_excusedFrom_32 : decode cX0_excusedFrom 32 = .ok (.iconst 1, 1) := dk_4 (dk_at dksX0_excusedFrom_1 8 rfl rfl)
theorem dX0_excusedFrom_33 : decode cX0_excusedFrom 33 = .ok (.iload_n 3, 1) := dk_29 (dk_at dksX0_excusedFrom_1 9 rfl rfl)
theorem dX0_excusedFrom_34 : decode cX0_excusedFrom 34 = .ok (.ishl, 1) := dk_120 (dk_at dksX0_excusedFrom_1 10 rfl rfl)
theorem dX0_excusedFrom_35 : decode cX0_excusedFrom 35 = .ok (.goto 4, 3) := dk_167 0 4 (dk_at dksX0_excusedFrom_1 11 rfl rfl)
theorem dX0_excusedFrom_38 : decode cX0_excusedFrom 38 = .ok (.iconst 0, 1) := dk_3 (dk_at dksX0_excusedFrom_1 14 rfl rfl)
theorem dX0_excusedFrom_39 : decode cX0_excusedFrom 39 = .ok (.ior, 1) := dk_128 (dk_at dksX0_excusedFrom_1 15 rfl rfl)
theorem dX0_excusedFrom_40 : decode cX0_excusedFrom 40 = .ok (.istore_n 2, 1) := dk_61 (dk_at dksX0_excusedFrom_1 16 rfl rfl)
theorem dX0_excusedFrom_41 : decode cX0_excusedFrom 41 = .ok (.iinc 3 1, 3) := dk_132 3 1 (dk_at dksX0_excusedFrom_1 17 rfl rfl)
theorem dX0_excusedFrom_44 : decode cX0_excusedFrom 44 = .ok (.goto (-40), 3) := dk_167 255 216 (dk_at dksX0_excusedFrom_1 20 rfl rfl)
theorem dX0_excusedFrom_47 : decode cX0_excusedFrom 47 = .ok (.iload_n 2, 1) := dk_28 (dk_at dksX0_excusedFrom_1 23 rfl rfl)
theorem dX0_excusedFrom_48 : decode cX0_excusedFrom 48 = .ok (.ireturn, 1) := dk_172 (dk_at dksX0_excusedFrom_2 0 rfl rfl)
abbrev cX0_person : ByteArray := prog_1_method_40_code
def yX0_person : MethodName := ⟨RX0, "person", "(II)I"⟩
def dkwX0_person_6 : List UInt8 := [172, 42, 27, 182, 1, 27, 172]
abbrev dktX0_person_6 : List UInt8 := dkwX0_person_6 ++ []
def dkwX0_person_5 : List UInt8 := [180, 1, 24, 27, 46, 172, 42, 182, 0, 153, 180, 0, 246, 27, 46, 172, 42, 182, 0, 153, 27, 182, 1, 6]
abbrev dktX0_person_5 : List UInt8 := dkwX0_person_5 ++ dktX0_person_6
def dkwX0_person_4 : List UInt8 := [182, 1, 17, 172, 42, 27, 182, 1, 21, 153, 0, 7, 4, 167, 0, 4, 3, 172, 42, 182, 0, 153]
abbrev dktX0_person_4 : List UInt8 := dkwX0_person_4 ++ dktX0_person_5
def dkwX0_person_3 : List UInt8 := [42, 182, 0, 153, 180, 1, 14, 27, 46, 172, 42, 182, 0, 153, 27, 42, 182, 0, 153, 180, 0, 240]
abbrev dktX0_person_3 : List UInt8 := dkwX0_person_3 ++ dktX0_person_4
def dkwX0_person_2 : List UInt8 := [170, 0, 0, 0, 106, 0, 0, 0, 0, 0, 0, 0, 5, 0, 0, 0, 37, 0, 0, 0, 47, 0, 0, 0, 63, 0, 0, 0, 77, 0, 0, 0, 87, 0, 0, 0, 97]
abbrev dktX0_person_2 : List UInt8 := dkwX0_person_2 ++ dktX0_person_3
def dkwX0_person_1 : List UInt8 := [167, 0, 4, 4, 181, 0, 76, 42, 180, 0, 76, 158, 0, 5, 2, 172, 28]
abbrev dktX0_person_1 : List UInt8 := dkwX0_person_1 ++ dktX0_person_2
def dkwX0_person_0 : List UInt8 := [42, 42, 27, 182, 1, 9, 153, 0, 19, 28, 133, 9, 20, 1, 12, 184, 0, 160, 153, 0, 7, 3]
abbrev dktX0_person_0 : List UInt8 := dkwX0_person_0 ++ dktX0_person_1
theorem dksX0_person_0 : cX0_person.data.toList.drop 0 = dktX0_person_0 := by decide +kernel
theorem dksX0_person_1 : cX0_person.data.toList.drop 22 = dktX0_person_1 := dk_seg dksX0_person_0 22 rfl rfl
theorem dksX0_person_2 : cX0_person.data.toList.drop 39 = dktX0_person_2 := dk_seg dksX0_person_1 17 rfl rfl
theorem dksX0_person_3 : cX0_person.data.toList.drop 76 = dktX0_person_3 := dk_seg dksX0_person_2 37 rfl rfl
theorem dksX0_person_4 : cX0_person.data.toList.drop 98 = dktX0_person_4 := dk_seg dksX0_person_3 22 rfl rfl
theorem dksX0_person_5 : cX0_person.data.toList.drop 120 = dktX0_person_5 := dk_seg dksX0_person_4 22 rfl rfl
theorem dksX0_person_6 : cX0_person.data.toList.drop 144 = dktX0_person_6 := dk_seg dksX0_person_5 24 rfl rfl
theorem dX0_person_0 : decode cX0_person 0 = .ok (.aload_n 0, 1) := dk_42 (dk_at dksX0_person_0 0 rfl rfl)
theorem dX0_person_1 : decode cX0_person 1 = .ok (.aload_n 0, 1) := dk_42 (dk_at dksX0_person_0 1 rfl rfl)
theorem dX0_person_2 : decode cX0_person 2 = .ok (.iload_n 1, 1) := dk_27 (dk_at dksX0_person_0 2 rfl rfl)
theorem dX0_person_3 : decode cX0_person 3 = .ok (.invokevirtual 265, 3) := dk_182 1 9 (dk_at dksX0_person_0 3 rfl rfl)
theorem dX0_person_6 : decode cX0_person 6 = .ok (.ifCond .eq 19, 3) := dk_153 0 19 (dk_at dksX0_person_0 6 rfl rfl)
theorem dX0_person_9 : decode cX0_person 9 = .ok (.iload_n 2, 1) := dk_28 (dk_at dksX0_person_0 9 rfl rfl)
theorem dX0_person_10 : decode cX0_person 10 = .ok (.i2l, 1) := dk_133 (dk_at dksX0_person_0 10 rfl rfl)
theorem dX0_person_11 : decode cX0_person 11 = .ok (.lconst 0, 1) := dk_9 (dk_at dksX0_person_0 11 rfl rfl)
theorem dX0_person_12 : decode cX0_person 12 = .ok (.ldc2_w 268, 3) := dk_20 1 12 (dk_at dksX0_person_0 12 rfl rfl)
theorem dX0_person_15 : decode cX0_person 15 = .ok (.invokestatic 160, 3) := dk_184 0 160 (dk_at dksX0_person_0 15 rfl rfl)
theorem dX0_person_18 : decode cX0_person 18 = .ok (.ifCond .eq 7, 3) := dk_153 0 7 (dk_at dksX0_person_0 18 rfl rfl)
theorem dX0_person_21 : decode cX0_person 21 = .ok (.iconst 0, 1) := dk_3 (dk_at dksX0_person_0 21 rfl rfl)
theorem dX0_person_22 : decode cX0_person 22 = .ok (.goto 4, 3) := dk_167 0 4 (dk_at dksX0_person_1 0 rfl rfl)
theorem dX0_person_25 : decode cX0_person 25 = .ok (.iconst 1, 1) := dk_4 (dk_at dksX0_person_1 3 rfl rfl)
theorem dX0_person_26 : decode cX0_person 26 = .ok (.putfield 76, 3) := dk_181 0 76 (dk_at dksX0_person_1 4 rfl rfl)
theorem dX0_person_29 : decode cX0_person 29 = .ok (.aload_n 0, 1) := dk_42 (dk_at dksX0_person_1 7 rfl rfl)
theorem dX0_person_30 : decode cX0_person 30 = .ok (.getfield 76, 3) := dk_180 0 76 (dk_at dksX0_person_1 8 rfl rfl)
theorem dX0_person_33 : decode cX0_person 33 = .ok (.ifCond .le 5, 3) := dk_158 0 5 (dk_at dksX0_person_1 11 rfl rfl)
theorem dX0_person_36 : decode cX0_person 36 = .ok (.iconst (-1), 1) := dk_2 (dk_at dksX0_person_1 14 rfl rfl)
theorem dX0_person_37 : decode cX0_person 37 = .ok (.ireturn, 1) := dk_172 (dk_at dksX0_person_1 15 rfl rfl)
theorem dX0_person_38 : decode cX0_person 38 = .ok (.iload_n 2, 1) := dk_28 (dk_at dksX0_person_1 16 rfl rfl)
theorem dX0_person_39 : decode cX0_person 39 = .ok (.tableswitch 106 0 5 #[37, 47, 63, 77, 87, 97], 37) := by decide +kernel
theorem dX0_person_76 : decode cX0_person 76 = .ok (.aload_n 0, 1) := dk_42 (dk_at dksX0_person_3 0 rfl rfl)
theorem dX0_person_77 : decode cX0_person 77 = .ok (.invokevirtual 153, 3) := dk_182 0 153 (dk_at dksX0_person_3 1 rfl rfl)
theorem dX0_person_80 : decode cX0_person 80 = .ok (.getfield 270, 3) := dk_180 1 14 (dk_at dksX0_person_3 4 rfl rfl)
theorem dX0_person_83 : decode cX0_person 83 = .ok (.iload_n 1, 1) := dk_27 (dk_at dksX0_person_3 7 rfl rfl)
theorem dX0_person_84 : decode cX0_person 84 = .ok (.iaload, 1) := dk_46 (dk_at dksX0_person_3 8 rfl rfl)
theorem dX0_person_85 : decode cX0_person 85 = .ok (.ireturn, 1) := dk_172 (dk_at dksX0_person_3 9 rfl rfl)
theorem dX0_person_86 : decode cX0_person 86 = .ok (.aload_n 0, 1) := dk_42 (dk_at dksX0_person_3 10 rfl rfl)
theorem dX0_person_87 : decode cX0_person 87 = .ok (.invokevirtual 153, 3) := dk_182 0 153 (dk_at dksX0_person_3 11 rfl rfl)
theorem dX0_person_90 : decode cX0_person 90 = .ok (.iload_n 1, 1) := dk_27 (dk_at dksX0_person_3 14 rfl rfl)
theorem dX0_person_91 : decode cX0_person 91 = .ok (.aload_n 0, 1) := dk_42 (dk_at dksX0_person_3 15 rfl rfl)
theorem dX0_person_92 : decode cX0_person 92 = .ok (.invokevirtual 153, 3) := dk_182 0 153 (dk_at dksX0_person_3 16 rfl rfl)
theorem dX0_person_95 : decode cX0_person 95 = .ok (.getfield 240, 3) := dk_180 0 240 (dk_at dksX0_person_3 19 rfl rfl)
theorem dX0_person_98 : decode cX0_person 98 = .ok (.invokevirtual 273, 3) := dk_182 1 17 (dk_at dksX0_person_4 0 rfl rfl)
theorem dX0_person_101 : decode cX0_person 101 = .ok (.ireturn, 1) := dk_172 (dk_at dksX0_person_4 3 rfl rfl)
theorem dX0_person_102 : decode cX0_person 102 = .ok (.aload_n 0, 1) := dk_42 (dk_at dksX0_person_4 4 rfl rfl)
theorem dX0_person_103 : decode cX0_person 103 = .ok (.iload_n 1, 1) := dk_27 (dk_at dksX0_person_4 5 rfl rfl)
theorem dX0_person_104 : decode cX0_person 104 = .ok (.invokevirtual 277, 3) := dk_182 1 21 (dk_at dksX0_person_4 6 rfl rfl)
theorem dX0_person_107 : decode cX0_person 107 = .ok (.ifCond .eq 7, 3) := dk_153 0 7 (dk_at dksX0_person_4 9 rfl rfl)
theorem dX0_person_110 : decode cX0_person 110 = .ok (.iconst 1, 1) := dk_4 (dk_at dksX0_person_4 12 rfl rfl)
theorem dX0_person_111 : decode cX0_person 111 = .ok (.goto 4, 3) := dk_167 0 4 (dk_at dksX0_person_4 13 rfl rfl)
theorem dX0_person_114 : decode cX0_person 114 = .ok (.iconst 0, 1) := dk_3 (dk_at dksX0_person_4 16 rfl rfl)
theorem dX0_person_115 : decode cX0_person 115 = .ok (.ireturn, 1) := dk_172 (dk_at dksX0_person_4 17 rfl rfl)
theorem dX0_person_116 : decode cX0_person 116 = .ok (.aload_n 0, 1) := dk_42 (dk_at dksX0_person_4 18 rfl rfl)
theorem dX0_person_117 : decode cX0_person 117 = .ok (.invokevirtual 153, 3) := dk_182 0 153 (dk_at dksX0_person_4 19 rfl rfl)
theorem dX0_person_120 : decode cX0_person 120 = .ok (.getfield 280, 3) := dk_180 1 24 (dk_at dksX0_person_5 0 rfl rfl)
theorem dX0_person_123 : decode cX0_person 123 = .ok (.iload_n 1, 1) := dk_27 (dk_at dksX0_person_5 3 rfl rfl)
theorem dX0_person_124 : decode cX0_person 124 = .ok (.iaload, 1) := dk_46 (dk_at dksX0_person_5 4 rfl rfl)
theorem dX0_person_125 : decode cX0_person 125 = .ok (.ireturn, 1) := dk_172 (dk_at dksX0_person_5 5 rfl rfl)
theorem dX0_person_126 : decode cX0_person 126 = .ok (.aload_n 0, 1) := dk_42 (dk_at dksX0_person_5 6 rfl rfl)
theorem dX0_person_127 : decode cX0_person 127 = .ok (.invokevirtual 153, 3) := dk_182 0 153 (dk_at dksX0_person_5 7 rfl rfl)
theorem dX0_person_130 : decode cX0_person 130 = .ok (.getfield 246, 3) := dk_180 0 246 (dk_at dksX0_person_5 10 rfl rfl)
theorem dX0_person_133 : decode cX0_person 133 = .ok (.iload_n 1, 1) := dk_27 (dk_at dksX0_person_5 13 rfl rfl)
theorem dX0_person_134 : decode cX0_person 134 = .ok (.iaload, 1) := dk_46 (dk_at dksX0_person_5 14 rfl rfl)
theorem dX0_person_135 : decode cX0_person 135 = .ok (.ireturn, 1) := dk_172 (dk_at dksX0_person_5 15 rfl rfl)
theorem dX0_person_136 : decode cX0_person 136 = .ok (.aload_n 0, 1) := dk_42 (dk_at dksX0_person_5 16 rfl rfl)
theorem dX0_person_137 : decode cX0_person 137 = .ok (.invokevirtual 153, 3) := dk_182 0 153 (dk_at dksX0_person_5 17 rfl rfl)
theorem dX0_person_140 : decode cX0_person 140 = .ok (.iload_n 1, 1) := dk_27 (dk_at dksX0_person_5 20 rfl rfl)
theorem dX0_person_141 : decode cX0_person 141 = .ok (.invokevirtual 262, 3) := dk_182 1 6 (dk_at dksX0_person_5 21 rfl rfl)
theorem dX0_person_144 : decode cX0_person 144 = .ok (.ireturn, 1) := dk_172 (dk_at dksX0_person_6 0 rfl rfl)
theorem dX0_person_145 : decode cX0_person 145 = .ok (.aload_n 0, 1) := dk_42 (dk_at dksX0_person_6 1 rfl rfl)
theorem dX0_person_146 : decode cX0_person 146 = .ok (.iload_n 1, 1) := dk_27 (dk_at dksX0_person_6 2 rfl rfl)
theorem dX0_person_147 : decode cX0_person 147 = .ok (.invokevirtual 283, 3) := dk_182 1 27 (dk_at dksX0_person_6 3 rfl rfl)
theorem dX0_person_150 : decode cX0_person 150 = .ok (.ireturn, 1) := dk_172 (dk_at dksX0_person_6 6 rfl rfl)
abbrev cX0_isPerson : ByteArray := prog_1_method_23_code
def yX0_isPerson : MethodName := ⟨RX0, "isPerson", "(I)Z"⟩
def dkwX0_isPerson_0 : List UInt8 := [27, 133, 9, 42, 182, 0, 153, 180, 0, 164, 4, 100, 133, 184, 0, 160, 172]
abbrev dktX0_isPerson_0 : List UInt8 := dkwX0_isPerson_0 ++ []
theorem dksX0_isPerson_0 : cX0_isPerson.data.toList.drop 0 = dktX0_isPerson_0 := by decide +kernel
theorem dX0_isPerson_0 : decode cX0_isPerson 0 = .ok (.iload_n 1, 1) := dk_27 (dk_at dksX0_isPerson_0 0 rfl rfl)
theorem dX0_isPerson_1 : decode cX0_isPerson 1 = .ok (.i2l, 1) := dk_133 (dk_at dksX0_isPerson_0 1 rfl rfl)
theorem dX0_isPerson_2 : decode cX0_isPerson 2 = .ok (.lconst 0, 1) := dk_9 (dk_at dksX0_isPerson_0 2 rfl rfl)
theorem dX0_isPerson_3 : decode cX0_isPerson 3 = .ok (.aload_n 0, 1) := dk_42 (dk_at dksX0_isPerson_0 3 rfl rfl)
theorem dX0_isPerson_4 : decode cX0_isPerson 4 = .ok (.invokevirtual 153, 3) := dk_182 0 153 (dk_at dksX0_isPerson_0 4 rfl rfl)
theorem dX0_isPerson_7 : decode cX0_isPerson 7 = .ok (.getfield 164, 3) := dk_180 0 164 (dk_at dksX0_isPerson_0 7 rfl rfl)
theorem dX0_isPerson_10 : decode cX0_isPerson 10 = .ok (.iconst 1, 1) := dk_4 (dk_at dksX0_isPerson_0 10 rfl rfl)
theorem dX0_isPerson_11 : decode cX0_isPerson 11 = .ok (.isub, 1) := dk_100 (dk_at dksX0_isPerson_0 11 rfl rfl)
theorem dX0_isPerson_12 : decode cX0_isPerson 12 = .ok (.i2l, 1) := dk_133 (dk_at dksX0_isPerson_0 12 rfl rfl)
theorem dX0_isPerson_13 : decode cX0_isPerson 13 = .ok (.invokestatic 160, 3) := dk_184 0 160 (dk_at dksX0_isPerson_0 13 rfl rfl)
theorem dX0_isPerson_16 : decode cX0_isPerson 16 = .ok (.ireturn, 1) := dk_172 (dk_at dksX0_isPerson_0 16 rfl rfl)
abbrev cX0_isAboard : ByteArray := prog_1_method_27_code
def yX0_isAboard : MethodName := ⟨RX0, "isAboard", "(I)Z"⟩
def dkwX0_isAboard_0 : List UInt8 := [42, 182, 0, 153, 180, 0, 174, 27, 184, 0, 177, 172]
abbrev dktX0_isAboard_0 : List UInt8 := dkwX0_isAboard_0 ++ []
theorem dksX0_isAboard_0 : cX0_isAboard.data.toList.drop 0 = dktX0_isAboard_0 := by decide +kernel
theorem dX0_isAboard_0 : decode cX0_isAboard 0 = .ok (.aload_n 0, 1) := dk_42 (dk_at dksX0_isAboard_0 0 rfl rfl)
theorem dX0_isAboard_1 : decode cX0_isAboard 1 = .ok (.invokevirtual 153, 3) := dk_182 0 153 (dk_at dksX0_isAboard_0 1 rfl rfl)
theorem dX0_isAboard_4 : decode cX0_isAboard 4 = .ok (.getfield 174, 3) := dk_180 0 174 (dk_at dksX0_isAboard_0 4 rfl rfl)
theorem dX0_isAboard_7 : decode cX0_isAboard 7 = .ok (.iload_n 1, 1) := dk_27 (dk_at dksX0_isAboard_0 7 rfl rfl)
theorem dX0_isAboard_8 : decode cX0_isAboard 8 = .ok (.invokestatic 177, 3) := dk_184 0 177 (dk_at dksX0_isAboard_0 8 rfl rfl)
theorem dX0_isAboard_11 : decode cX0_isAboard 11 = .ok (.ireturn, 1) := dk_172 (dk_at dksX0_isAboard_0 11 rfl rfl)
abbrev cX0_seenBy : ByteArray := prog_1_method_39_code
def yX0_seenBy : MethodName := ⟨RX0, "seenBy", "(I)I"⟩
def dkwX0_seenBy_1 : List UInt8 := [27, 184, 0, 177, 153, 0, 9, 4, 29, 120, 167, 0, 4, 3, 128, 61, 132, 3, 1, 167, 255, 217, 28, 172]
abbrev dktX0_seenBy_1 : List UInt8 := dkwX0_seenBy_1 ++ []
def dkwX0_seenBy_0 : List UInt8 := [3, 61, 3, 62, 29, 42, 182, 0, 153, 180, 0, 164, 162, 0, 34, 28, 42, 182, 0, 153, 29, 182, 1, 6]
abbrev dktX0_seenBy_0 : List UInt8 := dkwX0_seenBy_0 ++ dktX0_seenBy_1
theorem dksX0_seenBy_0 : cX0_seenBy.data.toList.drop 0 = dktX0_seenBy_0 := by decide +kernel
theorem dksX0_seenBy_1 : cX0_seenBy.data.toList.drop 24 = dktX0_seenBy_1 := dk_seg dksX0_seenBy_0 24 rfl rfl
theorem dX0_seenBy_0 : decode cX0_seenBy 0 = .ok (.iconst 0, 1) := dk_3 (dk_at dksX0_seenBy_0 0 rfl rfl)
theorem dX0_seenBy_1 : decode cX0_seenBy 1 = .ok (.istore_n 2, 1) := dk_61 (dk_at dksX0_seenBy_0 1 rfl rfl)
theorem dX0_seenBy_2 : decode cX0_seenBy 2 = .ok (.iconst 0, 1) := dk_3 (dk_at dksX0_seenBy_0 2 rfl rfl)
theorem dX0_seenBy_3 : decode cX0_seenBy 3 = .ok (.istore_n 3, 1) := dk_62 (dk_at dksX0_seenBy_0 3 rfl rfl)
theorem dX0_seenBy_4 : decode cX0_seenBy 4 = .ok (.iload_n 3, 1) := dk_29 (dk_at dksX0_seenBy_0 4 rfl rfl)
theorem dX0_seenBy_5 : decode cX0_seenBy 5 = .ok (.aload_n 0, 1) := dk_42 (dk_at dksX0_seenBy_0 5 rfl rfl)
theorem dX0_seenBy_6 : decode cX0_seenBy 6 = .ok (.invokevirtual 153, 3) := dk_182 0 153 (dk_at dksX0_seenBy_0 6 rfl rfl)
theorem dX0_seenBy_9 : decode cX0_seenBy 9 = .ok (.getfield 164, 3) := dk_180 0 164 (dk_at dksX0_seenBy_0 9 rfl rfl)
theorem dX0_seenBy_12 : decode cX0_seenBy 12 = .ok (.if_icmp .ge 34, 3) := dk_162 0 34 (dk_at dksX0_seenBy_0 12 rfl rfl)
theorem dX0_seenBy_15 : decode cX0_seenBy 15 = .ok (.iload_n 2, 1) := dk_28 (dk_at dksX0_seenBy_0 15 rfl rfl)
theorem dX0_seenBy_16 : decode cX0_seenBy 16 = .ok (.aload_n 0, 1) := dk_42 (dk_at dksX0_seenBy_0 16 rfl rfl)
theorem dX0_seenBy_17 : decode cX0_seenBy 17 = .ok (.invokevirtual 153, 3) := dk_182 0 153 (dk_at dksX0_seenBy_0 17 rfl rfl)
theorem dX0_seenBy_20 : decode cX0_seenBy 20 = .ok (.iload_n 3, 1) := dk_29 (dk_at dksX0_seenBy_0 20 rfl rfl)
theorem dX0_seenBy_21 : decode cX0_seenBy 21 = .ok (.invokevirtual 262, 3) := dk_182 1 6 (dk_at dksX0_seenBy_0 21 rfl rfl)
theorem dX0_seenBy_24 : decode cX0_seenBy 24 = .ok (.iload_n 1, 1) := dk_27 (dk_at dksX0_seenBy_1 0 rfl rfl)
theorem dX0_seenBy_25 : decode cX0_seenBy 25 = .ok (.invokestatic 177, 3) := dk_184 0 177 (dk_at dksX0_seenBy_1 1 rfl rfl)
theorem dX0_seenBy_28 : decode cX0_seenBy 28 = .ok (.ifCond .eq 9, 3) := dk_153 0 9 (dk_at dksX0_seenBy_1 4 rfl rfl)
theorem dX0_seenBy_31 : decode cX0_seenBy 31 = .ok (.iconst 1, 1) := dk_4 (dk_at dksX0_seenBy_1 7 rfl rfl)
theorem dX0_seenBy_32 : decode cX0_seenBy 32 = .ok (.iload_n 3, 1) := dk_29 (dk_at dksX0_seenBy_1 8 rfl rfl)
theorem dX0_seenBy_33 : decode cX0_seenBy 33 = .ok (.ishl, 1) := dk_120 (dk_at dksX0_seenBy_1 9 rfl rfl)
theorem dX0_seenBy_34 : decode cX0_seenBy 34 = .ok (.goto 4, 3) := dk_167 0 4 (dk_at dksX0_seenBy_1 10 rfl rfl)
theorem dX0_seenBy_37 : decode cX0_seenBy 37 = .ok (.iconst 0, 1) := dk_3 (dk_at dksX0_seenBy_1 13 rfl rfl)
theorem dX0_seenBy_38 : decode cX0_seenBy 38 = .ok (.ior, 1) := dk_128 (dk_at dksX0_seenBy_1 14 rfl rfl)
theorem dX0_seenBy_39 : decode cX0_seenBy 39 = .ok (.istore_n 2, 1) := dk_61 (dk_at dksX0_seenBy_1 15 rfl rfl)
theorem dX0_seenBy_40 : decode cX0_seenBy 40 = .ok (.iinc 3 1, 3) := dk_132 3 1 (dk_at dksX0_seenBy_1 16 rfl rfl)
theorem dX0_seenBy_43 : decode cX0_seenBy 43 = .ok (.goto (-39), 3) := dk_167 255 217 (dk_at dksX0_seenBy_1 19 rfl rfl)
theorem dX0_seenBy_46 : decode cX0_seenBy 46 = .ok (.iload_n 2, 1) := dk_28 (dk_at dksX0_seenBy_1 22 rfl rfl)
theorem dX0_seenBy_47 : decode cX0_seenBy 47 = .ok (.ireturn, 1) := dk_172 (dk_at dksX0_seenBy_1 23 rfl rfl)
abbrev cX0_call : ByteArray := prog_1_method_41_code
def yX0_call : MethodName := ⟨RX0, "call", "()I"⟩
def dkwX0_call_1 : List UInt8 := [180, 0, 76, 158, 0, 7, 2, 167, 0, 10, 42, 182, 0, 153, 182, 1, 30, 172]
abbrev dktX0_call_1 : List UInt8 := dkwX0_call_1 ++ []
def dkwX0_call_0 : List UInt8 := [42, 42, 182, 0, 153, 180, 0, 237, 17, 39, 15, 160, 0, 7, 7, 167, 0, 4, 3, 181, 0, 76, 42]
abbrev dktX0_call_0 : List UInt8 := dkwX0_call_0 ++ dktX0_call_1
theorem dksX0_call_0 : cX0_call.data.toList.drop 0 = dktX0_call_0 := by decide +kernel
theorem dksX0_call_1 : cX0_call.data.toList.drop 23 = dktX0_call_1 := dk_seg dksX0_call_0 23 rfl rfl
theorem dX0_call_0 : decode cX0_call 0 = .ok (.aload_n 0, 1) := dk_42 (dk_at dksX0_call_0 0 rfl rfl)
theorem dX0_call_1 : decode cX0_call 1 = .ok (.aload_n 0, 1) := dk_42 (dk_at dksX0_call_0 1 rfl rfl)
theorem dX0_call_2 : decode cX0_call 2 = .ok (.invokevirtual 153, 3) := dk_182 0 153 (dk_at dksX0_call_0 2 rfl rfl)
theorem dX0_call_5 : decode cX0_call 5 = .ok (.getfield 237, 3) := dk_180 0 237 (dk_at dksX0_call_0 5 rfl rfl)
theorem dX0_call_8 : decode cX0_call 8 = .ok (.sipush 9999, 3) := dk_17 39 15 (dk_at dksX0_call_0 8 rfl rfl)
theorem dX0_call_11 : decode cX0_call 11 = .ok (.if_icmp .ne 7, 3) := dk_160 0 7 (dk_at dksX0_call_0 11 rfl rfl)
theorem dX0_call_14 : decode cX0_call 14 = .ok (.iconst 4, 1) := dk_7 (dk_at dksX0_call_0 14 rfl rfl)
theorem dX0_call_15 : decode cX0_call 15 = .ok (.goto 4, 3) := dk_167 0 4 (dk_at dksX0_call_0 15 rfl rfl)
theorem dX0_call_18 : decode cX0_call 18 = .ok (.iconst 0, 1) := dk_3 (dk_at dksX0_call_0 18 rfl rfl)
theorem dX0_call_19 : decode cX0_call 19 = .ok (.putfield 76, 3) := dk_181 0 76 (dk_at dksX0_call_0 19 rfl rfl)
theorem dX0_call_22 : decode cX0_call 22 = .ok (.aload_n 0, 1) := dk_42 (dk_at dksX0_call_0 22 rfl rfl)
theorem dX0_call_23 : decode cX0_call 23 = .ok (.getfield 76, 3) := dk_180 0 76 (dk_at dksX0_call_1 0 rfl rfl)
theorem dX0_call_26 : decode cX0_call 26 = .ok (.ifCond .le 7, 3) := dk_158 0 7 (dk_at dksX0_call_1 3 rfl rfl)
theorem dX0_call_29 : decode cX0_call 29 = .ok (.iconst (-1), 1) := dk_2 (dk_at dksX0_call_1 6 rfl rfl)
theorem dX0_call_30 : decode cX0_call 30 = .ok (.goto 10, 3) := dk_167 0 10 (dk_at dksX0_call_1 7 rfl rfl)
theorem dX0_call_33 : decode cX0_call 33 = .ok (.aload_n 0, 1) := dk_42 (dk_at dksX0_call_1 10 rfl rfl)
theorem dX0_call_34 : decode cX0_call 34 = .ok (.invokevirtual 153, 3) := dk_182 0 153 (dk_at dksX0_call_1 11 rfl rfl)
theorem dX0_call_37 : decode cX0_call 37 = .ok (.invokevirtual 286, 3) := dk_182 1 30 (dk_at dksX0_call_1 14 rfl rfl)
theorem dX0_call_40 : decode cX0_call 40 = .ok (.ireturn, 1) := dk_172 (dk_at dksX0_call_1 17 rfl rfl)
abbrev cX0_show : ByteArray := prog_1_method_42_code
def yX0_show : MethodName := ⟨RX0, "show", "(IZ)Z"⟩
def dkwX0_show_2 : List UInt8 := [89, 180, 0, 240, 4, 27, 120, 130, 181, 0, 240, 42, 180, 0, 76, 154, 0, 7, 4, 167, 0, 4, 3, 172]
abbrev dktX0_show_2 : List UInt8 := dkwX0_show_2 ++ []
def dkwX0_show_1 : List UInt8 := [28, 160, 0, 8, 16, 7, 167, 0, 4, 3, 181, 0, 76, 42, 180, 0, 76, 154, 0, 18, 42, 182, 0, 153]
abbrev dktX0_show_1 : List UInt8 := dkwX0_show_1 ++ dktX0_show_2
def dkwX0_show_0 : List UInt8 := [42, 42, 27, 182, 0, 249, 154, 0, 7, 4, 167, 0, 24, 42, 182, 0, 153, 180, 0, 240, 27, 184, 0, 177]
abbrev dktX0_show_0 : List UInt8 := dkwX0_show_0 ++ dktX0_show_1
theorem dksX0_show_0 : cX0_show.data.toList.drop 0 = dktX0_show_0 := by decide +kernel
theorem dksX0_show_1 : cX0_show.data.toList.drop 24 = dktX0_show_1 := dk_seg dksX0_show_0 24 rfl rfl
theorem dksX0_show_2 : cX0_show.data.toList.drop 48 = dktX0_show_2 := dk_seg dksX0_show_1 24 rfl rfl
theorem dX0_show_0 : decode cX0_show 0 = .ok (.aload_n 0, 1) := dk_42 (dk_at dksX0_show_0 0 rfl rfl)
theorem dX0_show_1 : decode cX0_show 1 = .ok (.aload_n 0, 1) := dk_42 (dk_at dksX0_show_0 1 rfl rfl)
theorem dX0_show_2 : decode cX0_show 2 = .ok (.iload_n 1, 1) := dk_27 (dk_at dksX0_show_0 2 rfl rfl)
theorem dX0_show_3 : decode cX0_show 3 = .ok (.invokevirtual 249, 3) := dk_182 0 249 (dk_at dksX0_show_0 3 rfl rfl)
theorem dX0_show_6 : decode cX0_show 6 = .ok (.ifCond .ne 7, 3) := dk_154 0 7 (dk_at dksX0_show_0 6 rfl rfl)
theorem dX0_show_9 : decode cX0_show 9 = .ok (.iconst 1, 1) := dk_4 (dk_at dksX0_show_0 9 rfl rfl)
theorem dX0_show_10 : decode cX0_show 10 = .ok (.goto 24, 3) := dk_167 0 24 (dk_at dksX0_show_0 10 rfl rfl)
theorem dX0_show_13 : decode cX0_show 13 = .ok (.aload_n 0, 1) := dk_42 (dk_at dksX0_show_0 13 rfl rfl)
theorem dX0_show_14 : decode cX0_show 14 = .ok (.invokevirtual 153, 3) := dk_182 0 153 (dk_at dksX0_show_0 14 rfl rfl)
theorem dX0_show_17 : decode cX0_show 17 = .ok (.getfield 240, 3) := dk_180 0 240 (dk_at dksX0_show_0 17 rfl rfl)
theorem dX0_show_20 : decode cX0_show 20 = .ok (.iload_n 1, 1) := dk_27 (dk_at dksX0_show_0 20 rfl rfl)
theorem dX0_show_21 : decode cX0_show 21 = .ok (.invokestatic 177, 3) := dk_184 0 177 (dk_at dksX0_show_0 21 rfl rfl)
theorem dX0_show_24 : decode cX0_show 24 = .ok (.iload_n 2, 1) := dk_28 (dk_at dksX0_show_1 0 rfl rfl)
theorem dX0_show_25 : decode cX0_show 25 = .ok (.if_icmp .ne 8, 3) := dk_160 0 8 (dk_at dksX0_show_1 1 rfl rfl)
theorem dX0_show_28 : decode cX0_show 28 = .ok (.bipush 7, 2) := dk_16 7 (dk_at dksX0_show_1 4 rfl rfl)
theorem dX0_show_30 : decode cX0_show 30 = .ok (.goto 4, 3) := dk_167 0 4 (dk_at dksX0_show_1 6 rfl rfl)
theorem dX0_show_33 : decode cX0_show 33 = .ok (.iconst 0, 1) := dk_3 (dk_at dksX0_show_1 9 rfl rfl)
theorem dX0_show_34 : decode cX0_show 34 = .ok (.putfield 76, 3) := dk_181 0 76 (dk_at dksX0_show_1 10 rfl rfl)
theorem dX0_show_37 : decode cX0_show 37 = .ok (.aload_n 0, 1) := dk_42 (dk_at dksX0_show_1 13 rfl rfl)
theorem dX0_show_38 : decode cX0_show 38 = .ok (.getfield 76, 3) := dk_180 0 76 (dk_at dksX0_show_1 14 rfl rfl)
theorem dX0_show_41 : decode cX0_show 41 = .ok (.ifCond .ne 18, 3) := dk_154 0 18 (dk_at dksX0_show_1 17 rfl rfl)
theorem dX0_show_44 : decode cX0_show 44 = .ok (.aload_n 0, 1) := dk_42 (dk_at dksX0_show_1 20 rfl rfl)
theorem dX0_show_45 : decode cX0_show 45 = .ok (.invokevirtual 153, 3) := dk_182 0 153 (dk_at dksX0_show_1 21 rfl rfl)
theorem dX0_show_48 : decode cX0_show 48 = .ok (.dup, 1) := dk_89 (dk_at dksX0_show_2 0 rfl rfl)
theorem dX0_show_49 : decode cX0_show 49 = .ok (.getfield 240, 3) := dk_180 0 240 (dk_at dksX0_show_2 1 rfl rfl)
theorem dX0_show_52 : decode cX0_show 52 = .ok (.iconst 1, 1) := dk_4 (dk_at dksX0_show_2 4 rfl rfl)
theorem dX0_show_53 : decode cX0_show 53 = .ok (.iload_n 1, 1) := dk_27 (dk_at dksX0_show_2 5 rfl rfl)
theorem dX0_show_54 : decode cX0_show 54 = .ok (.ishl, 1) := dk_120 (dk_at dksX0_show_2 6 rfl rfl)
theorem dX0_show_55 : decode cX0_show 55 = .ok (.ixor, 1) := dk_130 (dk_at dksX0_show_2 7 rfl rfl)
theorem dX0_show_56 : decode cX0_show 56 = .ok (.putfield 240, 3) := dk_181 0 240 (dk_at dksX0_show_2 8 rfl rfl)
theorem dX0_show_59 : decode cX0_show 59 = .ok (.aload_n 0, 1) := dk_42 (dk_at dksX0_show_2 11 rfl rfl)
theorem dX0_show_60 : decode cX0_show 60 = .ok (.getfield 76, 3) := dk_180 0 76 (dk_at dksX0_show_2 12 rfl rfl)
theorem dX0_show_63 : decode cX0_show 63 = .ok (.ifCond .ne 7, 3) := dk_154 0 7 (dk_at dksX0_show_2 15 rfl rfl)
theorem dX0_show_66 : decode cX0_show 66 = .ok (.iconst 1, 1) := dk_4 (dk_at dksX0_show_2 18 rfl rfl)
theorem dX0_show_67 : decode cX0_show 67 = .ok (.goto 4, 3) := dk_167 0 4 (dk_at dksX0_show_2 19 rfl rfl)
theorem dX0_show_70 : decode cX0_show 70 = .ok (.iconst 0, 1) := dk_3 (dk_at dksX0_show_2 22 rfl rfl)
theorem dX0_show_71 : decode cX0_show 71 = .ok (.ireturn, 1) := dk_172 (dk_at dksX0_show_2 23 rfl rfl)
abbrev cX0_board : ByteArray := prog_1_method_43_code
def yX0_board : MethodName := ⟨RX0, "board", "(I)I"⟩
def dkwX0_board_2 : List UInt8 := [4, 27, 120, 128, 181, 0, 174, 42, 182, 0, 153, 180, 0, 174, 184, 1, 33, 172]
abbrev dktX0_board_2 : List UInt8 := dkwX0_board_2 ++ []
def dkwX0_board_1 : List UInt8 := [167, 0, 4, 3, 181, 0, 76, 42, 180, 0, 76, 158, 0, 5, 2, 172, 42, 182, 0, 153, 89, 180, 0, 174]
abbrev dktX0_board_1 : List UInt8 := dkwX0_board_1 ++ dktX0_board_2
def dkwX0_board_0 : List UInt8 := [42, 42, 27, 182, 1, 9, 154, 0, 7, 4, 167, 0, 17, 42, 27, 182, 1, 21, 153, 0, 8, 16, 7]
abbrev dktX0_board_0 : List UInt8 := dkwX0_board_0 ++ dktX0_board_1
theorem dksX0_board_0 : cX0_board.data.toList.drop 0 = dktX0_board_0 := by decide +kernel
theorem dksX0_board_1 : cX0_board.data.toList.drop 23 = dktX0_board_1 := dk_seg dksX0_board_0 23 rfl rfl
theorem dksX0_board_2 : cX0_board.data.toList.drop 47 = dktX0_board_2 := dk_seg dksX0_board_1 24 rfl rfl
theorem dX0_board_0 : decode cX0_board 0 = .ok (.aload_n 0, 1) := dk_42 (dk_at dksX0_board_0 0 rfl rfl)
theorem dX0_board_1 : decode cX0_board 1 = .ok (.aload_n 0, 1) := dk_42 (dk_at dksX0_board_0 1 rfl rfl)
theorem dX0_board_2 : decode cX0_board 2 = .ok (.iload_n 1, 1) := dk_27 (dk_at dksX0_board_0 2 rfl rfl)
theorem dX0_board_3 : decode cX0_board 3 = .ok (.invokevirtual 265, 3) := dk_182 1 9 (dk_at dksX0_board_0 3 rfl rfl)
theorem dX0_board_6 : decode cX0_board 6 = .ok (.ifCond .ne 7, 3) := dk_154 0 7 (dk_at dksX0_board_0 6 rfl rfl)
theorem dX0_board_9 : decode cX0_board 9 = .ok (.iconst 1, 1) := dk_4 (dk_at dksX0_board_0 9 rfl rfl)
theorem dX0_board_10 : decode cX0_board 10 = .ok (.goto 17, 3) := dk_167 0 17 (dk_at dksX0_board_0 10 rfl rfl)
theorem dX0_board_13 : decode cX0_board 13 = .ok (.aload_n 0, 1) := dk_42 (dk_at dksX0_board_0 13 rfl rfl)
theorem dX0_board_14 : decode cX0_board 14 = .ok (.iload_n 1, 1) := dk_27 (dk_at dksX0_board_0 14 rfl rfl)
theorem dX0_board_15 : decode cX0_board 15 = .ok (.invokevirtual 277, 3) := dk_182 1 21 (dk_at dksX0_board_0 15 rfl rfl)
theorem dX0_board_18 : decode cX0_board 18 = .ok (.ifCond .eq 8, 3) := dk_153 0 8 (dk_at dksX0_board_0 18 rfl rfl)
theorem dX0_board_21 : decode cX0_board 21 = .ok (.bipush 7, 2) := dk_16 7 (dk_at dksX0_board_0 21 rfl rfl)
theorem dX0_board_23 : decode cX0_board 23 = .ok (.goto 4, 3) := dk_167 0 4 (dk_at dksX0_board_1 0 rfl rfl)
theorem dX0_board_26 : decode cX0_board 26 = .ok (.iconst 0, 1) := dk_3 (dk_at dksX0_board_1 3 rfl rfl)
theorem dX0_board_27 : decode cX0_board 27 = .ok (.putfield 76, 3) := dk_181 0 76 (dk_at dksX0_board_1 4 rfl rfl)
theorem dX0_board_30 : decode cX0_board 30 = .ok (.aload_n 0, 1) := dk_42 (dk_at dksX0_board_1 7 rfl rfl)
theorem dX0_board_31 : decode cX0_board 31 = .ok (.getfield 76, 3) := dk_180 0 76 (dk_at dksX0_board_1 8 rfl rfl)
theorem dX0_board_34 : decode cX0_board 34 = .ok (.ifCond .le 5, 3) := dk_158 0 5 (dk_at dksX0_board_1 11 rfl rfl)
theorem dX0_board_37 : decode cX0_board 37 = .ok (.iconst (-1), 1) := dk_2 (dk_at dksX0_board_1 14 rfl rfl)
theorem dX0_board_38 : decode cX0_board 38 = .ok (.ireturn, 1) := dk_172 (dk_at dksX0_board_1 15 rfl rfl)
theorem dX0_board_39 : decode cX0_board 39 = .ok (.aload_n 0, 1) := dk_42 (dk_at dksX0_board_1 16 rfl rfl)
theorem dX0_board_40 : decode cX0_board 40 = .ok (.invokevirtual 153, 3) := dk_182 0 153 (dk_at dksX0_board_1 17 rfl rfl)
theorem dX0_board_43 : decode cX0_board 43 = .ok (.dup, 1) := dk_89 (dk_at dksX0_board_1 20 rfl rfl)
theorem dX0_board_44 : decode cX0_board 44 = .ok (.getfield 174, 3) := dk_180 0 174 (dk_at dksX0_board_1 21 rfl rfl)
theorem dX0_board_47 : decode cX0_board 47 = .ok (.iconst 1, 1) := dk_4 (dk_at dksX0_board_2 0 rfl rfl)
theorem dX0_board_48 : decode cX0_board 48 = .ok (.iload_n 1, 1) := dk_27 (dk_at dksX0_board_2 1 rfl rfl)
theorem dX0_board_49 : decode cX0_board 49 = .ok (.ishl, 1) := dk_120 (dk_at dksX0_board_2 2 rfl rfl)
theorem dX0_board_50 : decode cX0_board 50 = .ok (.ior, 1) := dk_128 (dk_at dksX0_board_2 3 rfl rfl)
theorem dX0_board_51 : decode cX0_board 51 = .ok (.putfield 174, 3) := dk_181 0 174 (dk_at dksX0_board_2 4 rfl rfl)
theorem dX0_board_54 : decode cX0_board 54 = .ok (.aload_n 0, 1) := dk_42 (dk_at dksX0_board_2 7 rfl rfl)
theorem dX0_board_55 : decode cX0_board 55 = .ok (.invokevirtual 153, 3) := dk_182 0 153 (dk_at dksX0_board_2 8 rfl rfl)
theorem dX0_board_58 : decode cX0_board 58 = .ok (.getfield 174, 3) := dk_180 0 174 (dk_at dksX0_board_2 11 rfl rfl)
theorem dX0_board_61 : decode cX0_board 61 = .ok (.invokestatic 289, 3) := dk_184 1 33 (dk_at dksX0_board_2 14 rfl rfl)
theorem dX0_board_64 : decode cX0_board 64 = .ok (.ireturn, 1) := dk_172 (dk_at dksX0_board_2 17 rfl rfl)
abbrev cX0_sway : ByteArray := prog_1_method_44_code
def yX0_sway : MethodName := ⟨RX0, "sway", "(II)Z"⟩
def dkwX0_sway_2 : List UInt8 := [42, 180, 0, 76, 154, 0, 7, 4, 167, 0, 4, 3, 172]
abbrev dktX0_sway_2 : List UInt8 := dkwX0_sway_2 ++ []
def dkwX0_sway_1 : List UInt8 := [167, 0, 4, 4, 181, 0, 76, 42, 180, 0, 76, 154, 0, 13, 42, 182, 0, 153, 180, 1, 14, 27, 28, 79]
abbrev dktX0_sway_1 : List UInt8 := dkwX0_sway_1 ++ dktX0_sway_2
def dkwX0_sway_0 : List UInt8 := [42, 42, 27, 182, 1, 9, 153, 0, 19, 28, 133, 9, 20, 1, 38, 184, 0, 160, 153, 0, 7, 3]
abbrev dktX0_sway_0 : List UInt8 := dkwX0_sway_0 ++ dktX0_sway_1
theorem dksX0_sway_0 : cX0_sway.data.toList.drop 0 = dktX0_sway_0 := by decide +kernel
theorem dksX0_sway_1 : cX0_sway.data.toList.drop 22 = dktX0_sway_1 := dk_seg dksX0_sway_0 22 rfl rfl
theorem dksX0_sway_2 : cX0_sway.data.toList.drop 46 = dktX0_sway_2 := dk_seg dksX0_sway_1 24 rfl rfl
theorem dX0_sway_0 : decode cX0_sway 0 = .ok (.aload_n 0, 1) := dk_42 (dk_at dksX0_sway_0 0 rfl rfl)
theorem dX0_sway_1 : decode cX0_sway 1 = .ok (.aload_n 0, 1) := dk_42 (dk_at dksX0_sway_0 1 rfl rfl)
theorem dX0_sway_2 : decode cX0_sway 2 = .ok (.iload_n 1, 1) := dk_27 (dk_at dksX0_sway_0 2 rfl rfl)
theorem dX0_sway_3 : decode cX0_sway 3 = .ok (.invokevirtual 265, 3) := dk_182 1 9 (dk_at dksX0_sway_0 3 rfl rfl)
theorem dX0_sway_6 : decode cX0_sway 6 = .ok (.ifCond .eq 19, 3) := dk_153 0 19 (dk_at dksX0_sway_0 6 rfl rfl)
theorem dX0_sway_9 : decode cX0_sway 9 = .ok (.iload_n 2, 1) := dk_28 (dk_at dksX0_sway_0 9 rfl rfl)
theorem dX0_sway_10 : decode cX0_sway 10 = .ok (.i2l, 1) := dk_133 (dk_at dksX0_sway_0 10 rfl rfl)
theorem dX0_sway_11 : decode cX0_sway 11 = .ok (.lconst 0, 1) := dk_9 (dk_at dksX0_sway_0 11 rfl rfl)
theorem dX0_sway_12 : decode cX0_sway 12 = .ok (.ldc2_w 294, 3) := dk_20 1 38 (dk_at dksX0_sway_0 12 rfl rfl)
theorem dX0_sway_15 : decode cX0_sway 15 = .ok (.invokestatic 160, 3) := dk_184 0 160 (dk_at dksX0_sway_0 15 rfl rfl)
theorem dX0_sway_18 : decode cX0_sway 18 = .ok (.ifCond .eq 7, 3) := dk_153 0 7 (dk_at dksX0_sway_0 18 rfl rfl)
theorem dX0_sway_21 : decode cX0_sway 21 = .ok (.iconst 0, 1) := dk_3 (dk_at dksX0_sway_0 21 rfl rfl)
theorem dX0_sway_22 : decode cX0_sway 22 = .ok (.goto 4, 3) := dk_167 0 4 (dk_at dksX0_sway_1 0 rfl rfl)
theorem dX0_sway_25 : decode cX0_sway 25 = .ok (.iconst 1, 1) := dk_4 (dk_at dksX0_sway_1 3 rfl rfl)
theorem dX0_sway_26 : decode cX0_sway 26 = .ok (.putfield 76, 3) := dk_181 0 76 (dk_at dksX0_sway_1 4 rfl rfl)
theorem dX0_sway_29 : decode cX0_sway 29 = .ok (.aload_n 0, 1) := dk_42 (dk_at dksX0_sway_1 7 rfl rfl)
theorem dX0_sway_30 : decode cX0_sway 30 = .ok (.getfield 76, 3) := dk_180 0 76 (dk_at dksX0_sway_1 8 rfl rfl)
theorem dX0_sway_33 : decode cX0_sway 33 = .ok (.ifCond .ne 13, 3) := dk_154 0 13 (dk_at dksX0_sway_1 11 rfl rfl)
theorem dX0_sway_36 : decode cX0_sway 36 = .ok (.aload_n 0, 1) := dk_42 (dk_at dksX0_sway_1 14 rfl rfl)
theorem dX0_sway_37 : decode cX0_sway 37 = .ok (.invokevirtual 153, 3) := dk_182 0 153 (dk_at dksX0_sway_1 15 rfl rfl)
theorem dX0_sway_40 : decode cX0_sway 40 = .ok (.getfield 270, 3) := dk_180 1 14 (dk_at dksX0_sway_1 18 rfl rfl)
theorem dX0_sway_43 : decode cX0_sway 43 = .ok (.iload_n 1, 1) := dk_27 (dk_at dksX0_sway_1 21 rfl rfl)
theorem dX0_sway_44 : decode cX0_sway 44 = .ok (.iload_n 2, 1) := dk_28 (dk_at dksX0_sway_1 22 rfl rfl)
theorem dX0_sway_45 : decode cX0_sway 45 = .ok (.iastore, 1) := dk_79 (dk_at dksX0_sway_1 23 rfl rfl)
theorem dX0_sway_46 : decode cX0_sway 46 = .ok (.aload_n 0, 1) := dk_42 (dk_at dksX0_sway_2 0 rfl rfl)
theorem dX0_sway_47 : decode cX0_sway 47 = .ok (.getfield 76, 3) := dk_180 0 76 (dk_at dksX0_sway_2 1 rfl rfl)
theorem dX0_sway_50 : decode cX0_sway 50 = .ok (.ifCond .ne 7, 3) := dk_154 0 7 (dk_at dksX0_sway_2 4 rfl rfl)
theorem dX0_sway_53 : decode cX0_sway 53 = .ok (.iconst 1, 1) := dk_4 (dk_at dksX0_sway_2 7 rfl rfl)
theorem dX0_sway_54 : decode cX0_sway 54 = .ok (.goto 4, 3) := dk_167 0 4 (dk_at dksX0_sway_2 8 rfl rfl)
theorem dX0_sway_57 : decode cX0_sway 57 = .ok (.iconst 0, 1) := dk_3 (dk_at dksX0_sway_2 11 rfl rfl)
theorem dX0_sway_58 : decode cX0_sway 58 = .ok (.ireturn, 1) := dk_172 (dk_at dksX0_sway_2 12 rfl rfl)
abbrev cX0_excuse : ByteArray := prog_1_method_45_code
def yX0_excuse : MethodName := ⟨RX0, "excuse", "(IIZ)Z"⟩
def dkwX0_excuse_3 : List UInt8 := [79, 42, 180, 0, 76, 154, 0, 7, 4, 167, 0, 4, 3, 172]
abbrev dktX0_excuse_3 : List UInt8 := dkwX0_excuse_3 ++ []
def dkwX0_excuse_2 : List UInt8 := [181, 0, 76, 42, 180, 0, 76, 154, 0, 18, 42, 182, 0, 153, 180, 0, 246, 27, 92, 46, 4, 28, 120, 130]
abbrev dktX0_excuse_2 : List UInt8 := dkwX0_excuse_2 ++ dktX0_excuse_3
def dkwX0_excuse_1 : List UInt8 := [182, 0, 153, 180, 0, 246, 27, 46, 28, 184, 0, 177, 29, 160, 0, 8, 16, 7, 167, 0, 4, 3]
abbrev dktX0_excuse_1 : List UInt8 := dkwX0_excuse_1 ++ dktX0_excuse_2
def dkwX0_excuse_0 : List UInt8 := [42, 42, 27, 182, 1, 9, 153, 0, 11, 42, 28, 182, 0, 249, 154, 0, 7, 4, 167, 0, 26, 42]
abbrev dktX0_excuse_0 : List UInt8 := dkwX0_excuse_0 ++ dktX0_excuse_1
theorem dksX0_excuse_0 : cX0_excuse.data.toList.drop 0 = dktX0_excuse_0 := by decide +kernel
theorem dksX0_excuse_1 : cX0_excuse.data.toList.drop 22 = dktX0_excuse_1 := dk_seg dksX0_excuse_0 22 rfl rfl
theorem dksX0_excuse_2 : cX0_excuse.data.toList.drop 44 = dktX0_excuse_2 := dk_seg dksX0_excuse_1 22 rfl rfl
theorem dksX0_excuse_3 : cX0_excuse.data.toList.drop 68 = dktX0_excuse_3 := dk_seg dksX0_excuse_2 24 rfl rfl
theorem dX0_excuse_0 : decode cX0_excuse 0 = .ok (.aload_n 0, 1) := dk_42 (dk_at dksX0_excuse_0 0 rfl rfl)
theorem dX0_excuse_1 : decode cX0_excuse 1 = .ok (.aload_n 0, 1) := dk_42 (dk_at dksX0_excuse_0 1 rfl rfl)
theorem dX0_excuse_2 : decode cX0_excuse 2 = .ok (.iload_n 1, 1) := dk_27 (dk_at dksX0_excuse_0 2 rfl rfl)
theorem dX0_excuse_3 : decode cX0_excuse 3 = .ok (.invokevirtual 265, 3) := dk_182 1 9 (dk_at dksX0_excuse_0 3 rfl rfl)
theorem dX0_excuse_6 : decode cX0_excuse 6 = .ok (.ifCond .eq 11, 3) := dk_153 0 11 (dk_at dksX0_excuse_0 6 rfl rfl)
theorem dX0_excuse_9 : decode cX0_excuse 9 = .ok (.aload_n 0, 1) := dk_42 (dk_at dksX0_excuse_0 9 rfl rfl)
theorem dX0_excuse_10 : decode cX0_excuse 10 = .ok (.iload_n 2, 1) := dk_28 (dk_at dksX0_excuse_0 10 rfl rfl)
theorem dX0_excuse_11 : decode cX0_excuse 11 = .ok (.invokevirtual 249, 3) := dk_182 0 249 (dk_at dksX0_excuse_0 11 rfl rfl)
theorem dX0_excuse_14 : decode cX0_excuse 14 = .ok (.ifCond .ne 7, 3) := dk_154 0 7 (dk_at dksX0_excuse_0 14 rfl rfl)
theorem dX0_excuse_17 : decode cX0_excuse 17 = .ok (.iconst 1, 1) := dk_4 (dk_at dksX0_excuse_0 17 rfl rfl)
theorem dX0_excuse_18 : decode cX0_excuse 18 = .ok (.goto 26, 3) := dk_167 0 26 (dk_at dksX0_excuse_0 18 rfl rfl)
theorem dX0_excuse_21 : decode cX0_excuse 21 = .ok (.aload_n 0, 1) := dk_42 (dk_at dksX0_excuse_0 21 rfl rfl)
theorem dX0_excuse_22 : decode cX0_excuse 22 = .ok (.invokevirtual 153, 3) := dk_182 0 153 (dk_at dksX0_excuse_1 0 rfl rfl)
theorem dX0_excuse_25 : decode cX0_excuse 25 = .ok (.getfield 246, 3) := dk_180 0 246 (dk_at dksX0_excuse_1 3 rfl rfl)
theorem dX0_excuse_28 : decode cX0_excuse 28 = .ok (.iload_n 1, 1) := dk_27 (dk_at dksX0_excuse_1 6 rfl rfl)
theorem dX0_excuse_29 : decode cX0_excuse 29 = .ok (.iaload, 1) := dk_46 (dk_at dksX0_excuse_1 7 rfl rfl)
theorem dX0_excuse_30 : decode cX0_excuse 30 = .ok (.iload_n 2, 1) := dk_28 (dk_at dksX0_excuse_1 8 rfl rfl)
theorem dX0_excuse_31 : decode cX0_excuse 31 = .ok (.invokestatic 177, 3) := dk_184 0 177 (dk_at dksX0_excuse_1 9 rfl rfl)
theorem dX0_excuse_34 : decode cX0_excuse 34 = .ok (.iload_n 3, 1) := dk_29 (dk_at dksX0_excuse_1 12 rfl rfl)
theorem dX0_excuse_35 : decode cX0_excuse 35 = .ok (.if_icmp .ne 8, 3) := dk_160 0 8 (dk_at dksX0_excuse_1 13 rfl rfl)
theorem dX0_excuse_38 : decode cX0_excuse 38 = .ok (.bipush 7, 2) := dk_16 7 (dk_at dksX0_excuse_1 16 rfl rfl)
theorem dX0_excuse_40 : decode cX0_excuse 40 = .ok (.goto 4, 3) := dk_167 0 4 (dk_at dksX0_excuse_1 18 rfl rfl)
theorem dX0_excuse_43 : decode cX0_excuse 43 = .ok (.iconst 0, 1) := dk_3 (dk_at dksX0_excuse_1 21 rfl rfl)
theorem dX0_excuse_44 : decode cX0_excuse 44 = .ok (.putfield 76, 3) := dk_181 0 76 (dk_at dksX0_excuse_2 0 rfl rfl)
theorem dX0_excuse_47 : decode cX0_excuse 47 = .ok (.aload_n 0, 1) := dk_42 (dk_at dksX0_excuse_2 3 rfl rfl)
theorem dX0_excuse_48 : decode cX0_excuse 48 = .ok (.getfield 76, 3) := dk_180 0 76 (dk_at dksX0_excuse_2 4 rfl rfl)
theorem dX0_excuse_51 : decode cX0_excuse 51 = .ok (.ifCond .ne 18, 3) := dk_154 0 18 (dk_at dksX0_excuse_2 7 rfl rfl)
theorem dX0_excuse_54 : decode cX0_excuse 54 = .ok (.aload_n 0, 1) := dk_42 (dk_at dksX0_excuse_2 10 rfl rfl)
theorem dX0_excuse_55 : decode cX0_excuse 55 = .ok (.invokevirtual 153, 3) := dk_182 0 153 (dk_at dksX0_excuse_2 11 rfl rfl)
theorem dX0_excuse_58 : decode cX0_excuse 58 = .ok (.getfield 246, 3) := dk_180 0 246 (dk_at dksX0_excuse_2 14 rfl rfl)
theorem dX0_excuse_61 : decode cX0_excuse 61 = .ok (.iload_n 1, 1) := dk_27 (dk_at dksX0_excuse_2 17 rfl rfl)
theorem dX0_excuse_62 : decode cX0_excuse 62 = .ok (.dup2, 1) := dk_92 (dk_at dksX0_excuse_2 18 rfl rfl)
theorem dX0_excuse_63 : decode cX0_excuse 63 = .ok (.iaload, 1) := dk_46 (dk_at dksX0_excuse_2 19 rfl rfl)
theorem dX0_excuse_64 : decode cX0_excuse 64 = .ok (.iconst 1, 1) := dk_4 (dk_at dksX0_excuse_2 20 rfl rfl)
theorem dX0_excuse_65 : decode cX0_excuse 65 = .ok (.iload_n 2, 1) := dk_28 (dk_at dksX0_excuse_2 21 rfl rfl)
theorem dX0_excuse_66 : decode cX0_excuse 66 = .ok (.ishl, 1) := dk_120 (dk_at dksX0_excuse_2 22 rfl rfl)
theorem dX0_excuse_67 : decode cX0_excuse 67 = .ok (.ixor, 1) := dk_130 (dk_at dksX0_excuse_2 23 rfl rfl)
theorem dX0_excuse_68 : decode cX0_excuse 68 = .ok (.iastore, 1) := dk_79 (dk_at dksX0_excuse_3 0 rfl rfl)
theorem dX0_excuse_69 : decode cX0_excuse 69 = .ok (.aload_n 0, 1) := dk_42 (dk_at dksX0_excuse_3 1 rfl rfl)
theorem dX0_excuse_70 : decode cX0_excuse 70 = .ok (.getfield 76, 3) := dk_180 0 76 (dk_at dksX0_excuse_3 2 rfl rfl)
theorem dX0_excuse_73 : decode cX0_excuse 73 = .ok (.ifCond .ne 7, 3) := dk_154 0 7 (dk_at dksX0_excuse_3 5 rfl rfl)
theorem dX0_excuse_76 : decode cX0_excuse 76 = .ok (.iconst 1, 1) := dk_4 (dk_at dksX0_excuse_3 8 rfl rfl)
theorem dX0_excuse_77 : decode cX0_excuse 77 = .ok (.goto 4, 3) := dk_167 0 4 (dk_at dksX0_excuse_3 9 rfl rfl)
theorem dX0_excuse_80 : decode cX0_excuse 80 = .ok (.iconst 0, 1) := dk_3 (dk_at dksX0_excuse_3 12 rfl rfl)
theorem dX0_excuse_81 : decode cX0_excuse 81 = .ok (.ireturn, 1) := dk_172 (dk_at dksX0_excuse_3 13 rfl rfl)
abbrev cX0_see : ByteArray := prog_1_method_46_code
def yX0_see : MethodName := ⟨RX0, "see", "(IIZ)Z"⟩
def dkwX0_see_3 : List UInt8 := [130, 79, 42, 180, 0, 76, 154, 0, 7, 4, 167, 0, 4, 3, 172]
abbrev dktX0_see_3 : List UInt8 := dkwX0_see_3 ++ []
def dkwX0_see_2 : List UInt8 := [3, 181, 0, 76, 42, 180, 0, 76, 154, 0, 18, 42, 182, 0, 153, 180, 1, 40, 27, 92, 46, 4, 28, 120]
abbrev dktX0_see_2 : List UInt8 := dkwX0_see_2 ++ dktX0_see_3
def dkwX0_see_1 : List UInt8 := [167, 0, 25, 42, 182, 0, 153, 27, 182, 1, 6, 28, 184, 0, 177, 29, 160, 0, 8, 16, 7, 167, 0, 4]
abbrev dktX0_see_1 : List UInt8 := dkwX0_see_1 ++ dktX0_see_2
def dkwX0_see_0 : List UInt8 := [42, 42, 27, 182, 1, 9, 153, 0, 16, 42, 28, 182, 1, 9, 153, 0, 8, 27, 28, 160, 0, 7, 4]
abbrev dktX0_see_0 : List UInt8 := dkwX0_see_0 ++ dktX0_see_1
theorem dksX0_see_0 : cX0_see.data.toList.drop 0 = dktX0_see_0 := by decide +kernel
theorem dksX0_see_1 : cX0_see.data.toList.drop 23 = dktX0_see_1 := dk_seg dksX0_see_0 23 rfl rfl
theorem dksX0_see_2 : cX0_see.data.toList.drop 47 = dktX0_see_2 := dk_seg dksX0_see_1 24 rfl rfl
theorem dksX0_see_3 : cX0_see.data.toList.drop 71 = dktX0_see_3 := dk_seg dksX0_see_2 24 rfl rfl
theorem dX0_see_0 : decode cX0_see 0 = .ok (.aload_n 0, 1) := dk_42 (dk_at dksX0_see_0 0 rfl rfl)
theorem dX0_see_1 : decode cX0_see 1 = .ok (.aload_n 0, 1) := dk_42 (dk_at dksX0_see_0 1 rfl rfl)
theorem dX0_see_2 : decode cX0_see 2 = .ok (.iload_n 1, 1) := dk_27 (dk_at dksX0_see_0 2 rfl rfl)
theorem dX0_see_3 : decode cX0_see 3 = .ok (.invokevirtual 265, 3) := dk_182 1 9 (dk_at dksX0_see_0 3 rfl rfl)
theorem dX0_see_6 : decode cX0_see 6 = .ok (.ifCond .eq 16, 3) := dk_153 0 16 (dk_at dksX0_see_0 6 rfl rfl)
theorem dX0_see_9 : decode cX0_see 9 = .ok (.aload_n 0, 1) := dk_42 (dk_at dksX0_see_0 9 rfl rfl)
theorem dX0_see_10 : decode cX0_see 10 = .ok (.iload_n 2, 1) := dk_28 (dk_at dksX0_see_0 10 rfl rfl)
theorem dX0_see_11 : decode cX0_see 11 = .ok (.invokevirtual 265, 3) := dk_182 1 9 (dk_at dksX0_see_0 11 rfl rfl)
theorem dX0_see_14 : decode cX0_see 14 = .ok (.ifCond .eq 8, 3) := dk_153 0 8 (dk_at dksX0_see_0 14 rfl rfl)
theorem dX0_see_17 : decode cX0_see 17 = .ok (.iload_n 1, 1) := dk_27 (dk_at dksX0_see_0 17 rfl rfl)
theorem dX0_see_18 : decode cX0_see 18 = .ok (.iload_n 2, 1) := dk_28 (dk_at dksX0_see_0 18 rfl rfl)
theorem dX0_see_19 : decode cX0_see 19 = .ok (.if_icmp .ne 7, 3) := dk_160 0 7 (dk_at dksX0_see_0 19 rfl rfl)
theorem dX0_see_22 : decode cX0_see 22 = .ok (.iconst 1, 1) := dk_4 (dk_at dksX0_see_0 22 rfl rfl)
theorem dX0_see_23 : decode cX0_see 23 = .ok (.goto 25, 3) := dk_167 0 25 (dk_at dksX0_see_1 0 rfl rfl)
theorem dX0_see_26 : decode cX0_see 26 = .ok (.aload_n 0, 1) := dk_42 (dk_at dksX0_see_1 3 rfl rfl)
theorem dX0_see_27 : decode cX0_see 27 = .ok (.invokevirtual 153, 3) := dk_182 0 153 (dk_at dksX0_see_1 4 rfl rfl)
theorem dX0_see_30 : decode cX0_see 30 = .ok (.iload_n 1, 1) := dk_27 (dk_at dksX0_see_1 7 rfl rfl)
theorem dX0_see_31 : decode cX0_see 31 = .ok (.invokevirtual 262, 3) := dk_182 1 6 (dk_at dksX0_see_1 8 rfl rfl)
theorem dX0_see_34 : decode cX0_see 34 = .ok (.iload_n 2, 1) := dk_28 (dk_at dksX0_see_1 11 rfl rfl)
theorem dX0_see_35 : decode cX0_see 35 = .ok (.invokestatic 177, 3) := dk_184 0 177 (dk_at dksX0_see_1 12 rfl rfl)
theorem dX0_see_38 : decode cX0_see 38 = .ok (.iload_n 3, 1) := dk_29 (dk_at dksX0_see_1 15 rfl rfl)
theorem dX0_see_39 : decode cX0_see 39 = .ok (.if_icmp .ne 8, 3) := dk_160 0 8 (dk_at dksX0_see_1 16 rfl rfl)
theorem dX0_see_42 : decode cX0_see 42 = .ok (.bipush 7, 2) := dk_16 7 (dk_at dksX0_see_1 19 rfl rfl)
theorem dX0_see_44 : decode cX0_see 44 = .ok (.goto 4, 3) := dk_167 0 4 (dk_at dksX0_see_1 21 rfl rfl)
theorem dX0_see_47 : decode cX0_see 47 = .ok (.iconst 0, 1) := dk_3 (dk_at dksX0_see_2 0 rfl rfl)
theorem dX0_see_48 : decode cX0_see 48 = .ok (.putfield 76, 3) := dk_181 0 76 (dk_at dksX0_see_2 1 rfl rfl)
theorem dX0_see_51 : decode cX0_see 51 = .ok (.aload_n 0, 1) := dk_42 (dk_at dksX0_see_2 4 rfl rfl)
theorem dX0_see_52 : decode cX0_see 52 = .ok (.getfield 76, 3) := dk_180 0 76 (dk_at dksX0_see_2 5 rfl rfl)
theorem dX0_see_55 : decode cX0_see 55 = .ok (.ifCond .ne 18, 3) := dk_154 0 18 (dk_at dksX0_see_2 8 rfl rfl)
theorem dX0_see_58 : decode cX0_see 58 = .ok (.aload_n 0, 1) := dk_42 (dk_at dksX0_see_2 11 rfl rfl)
theorem dX0_see_59 : decode cX0_see 59 = .ok (.invokevirtual 153, 3) := dk_182 0 153 (dk_at dksX0_see_2 12 rfl rfl)
theorem dX0_see_62 : decode cX0_see 62 = .ok (.getfield 296, 3) := dk_180 1 40 (dk_at dksX0_see_2 15 rfl rfl)
theorem dX0_see_65 : decode cX0_see 65 = .ok (.iload_n 1, 1) := dk_27 (dk_at dksX0_see_2 18 rfl rfl)
theorem dX0_see_66 : decode cX0_see 66 = .ok (.dup2, 1) := dk_92 (dk_at dksX0_see_2 19 rfl rfl)
theorem dX0_see_67 : decode cX0_see 67 = .ok (.iaload, 1) := dk_46 (dk_at dksX0_see_2 20 rfl rfl)
theorem dX0_see_68 : decode cX0_see 68 = .ok (.iconst 1, 1) := dk_4 (dk_at dksX0_see_2 21 rfl rfl)
theorem dX0_see_69 : decode cX0_see 69 = .ok (.iload_n 2, 1) := dk_28 (dk_at dksX0_see_2 22 rfl rfl)
theorem dX0_see_70 : decode cX0_see 70 = .ok (.ishl, 1) := dk_120 (dk_at dksX0_see_2 23 rfl rfl)
theorem dX0_see_71 : decode cX0_see 71 = .ok (.ixor, 1) := dk_130 (dk_at dksX0_see_3 0 rfl rfl)
theorem dX0_see_72 : decode cX0_see 72 = .ok (.iastore, 1) := dk_79 (dk_at dksX0_see_3 1 rfl rfl)
theorem dX0_see_73 : decode cX0_see 73 = .ok (.aload_n 0, 1) := dk_42 (dk_at dksX0_see_3 2 rfl rfl)
theorem dX0_see_74 : decode cX0_see 74 = .ok (.getfield 76, 3) := dk_180 0 76 (dk_at dksX0_see_3 3 rfl rfl)
theorem dX0_see_77 : decode cX0_see 77 = .ok (.ifCond .ne 7, 3) := dk_154 0 7 (dk_at dksX0_see_3 6 rfl rfl)
theorem dX0_see_80 : decode cX0_see 80 = .ok (.iconst 1, 1) := dk_4 (dk_at dksX0_see_3 9 rfl rfl)
theorem dX0_see_81 : decode cX0_see 81 = .ok (.goto 4, 3) := dk_167 0 4 (dk_at dksX0_see_3 10 rfl rfl)
theorem dX0_see_84 : decode cX0_see 84 = .ok (.iconst 0, 1) := dk_3 (dk_at dksX0_see_3 13 rfl rfl)
theorem dX0_see_85 : decode cX0_see 85 = .ok (.ireturn, 1) := dk_172 (dk_at dksX0_see_3 14 rfl rfl)
abbrev cX0_paint : ByteArray := prog_1_method_47_code
def yX0_paint : MethodName := ⟨RX0, "paint", "(II)Z"⟩
def dkwX0_paint_2 : List UInt8 := [42, 180, 0, 76, 154, 0, 7, 4, 167, 0, 4, 3, 172]
abbrev dktX0_paint_2 : List UInt8 := dkwX0_paint_2 ++ []
def dkwX0_paint_1 : List UInt8 := [167, 0, 4, 4, 181, 0, 76, 42, 180, 0, 76, 154, 0, 13, 42, 182, 0, 153, 180, 0, 255, 27, 28, 79]
abbrev dktX0_paint_1 : List UInt8 := dkwX0_paint_1 ++ dktX0_paint_2
def dkwX0_paint_0 : List UInt8 := [42, 42, 27, 182, 0, 249, 153, 0, 19, 28, 133, 10, 20, 1, 43, 184, 0, 160, 153, 0, 7, 3]
abbrev dktX0_paint_0 : List UInt8 := dkwX0_paint_0 ++ dktX0_paint_1
theorem dksX0_paint_0 : cX0_paint.data.toList.drop 0 = dktX0_paint_0 := by decide +kernel
theorem dksX0_paint_1 : cX0_paint.data.toList.drop 22 = dktX0_paint_1 := dk_seg dksX0_paint_0 22 rfl rfl
theorem dksX0_paint_2 : cX0_paint.data.toList.drop 46 = dktX0_paint_2 := dk_seg dksX0_paint_1 24 rfl rfl
theorem dX0_paint_0 : decode cX0_paint 0 = .ok (.aload_n 0, 1) := dk_42 (dk_at dksX0_paint_0 0 rfl rfl)
theorem dX0_paint_1 : decode cX0_paint 1 = .ok (.aload_n 0, 1) := dk_42 (dk_at dksX0_paint_0 1 rfl rfl)
theorem dX0_paint_2 : decode cX0_paint 2 = .ok (.iload_n 1, 1) := dk_27 (dk_at dksX0_paint_0 2 rfl rfl)
theorem dX0_paint_3 : decode cX0_paint 3 = .ok (.invokevirtual 249, 3) := dk_182 0 249 (dk_at dksX0_paint_0 3 rfl rfl)
theorem dX0_paint_6 : decode cX0_paint 6 = .ok (.ifCond .eq 19, 3) := dk_153 0 19 (dk_at dksX0_paint_0 6 rfl rfl)
theorem dX0_paint_9 : decode cX0_paint 9 = .ok (.iload_n 2, 1) := dk_28 (dk_at dksX0_paint_0 9 rfl rfl)
theorem dX0_paint_10 : decode cX0_paint 10 = .ok (.i2l, 1) := dk_133 (dk_at dksX0_paint_0 10 rfl rfl)
theorem dX0_paint_11 : decode cX0_paint 11 = .ok (.lconst 1, 1) := dk_10 (dk_at dksX0_paint_0 11 rfl rfl)
theorem dX0_paint_12 : decode cX0_paint 12 = .ok (.ldc2_w 299, 3) := dk_20 1 43 (dk_at dksX0_paint_0 12 rfl rfl)
theorem dX0_paint_15 : decode cX0_paint 15 = .ok (.invokestatic 160, 3) := dk_184 0 160 (dk_at dksX0_paint_0 15 rfl rfl)
theorem dX0_paint_18 : decode cX0_paint 18 = .ok (.ifCond .eq 7, 3) := dk_153 0 7 (dk_at dksX0_paint_0 18 rfl rfl)
theorem dX0_paint_21 : decode cX0_paint 21 = .ok (.iconst 0, 1) := dk_3 (dk_at dksX0_paint_0 21 rfl rfl)
theorem dX0_paint_22 : decode cX0_paint 22 = .ok (.goto 4, 3) := dk_167 0 4 (dk_at dksX0_paint_1 0 rfl rfl)
theorem dX0_paint_25 : decode cX0_paint 25 = .ok (.iconst 1, 1) := dk_4 (dk_at dksX0_paint_1 3 rfl rfl)
theorem dX0_paint_26 : decode cX0_paint 26 = .ok (.putfield 76, 3) := dk_181 0 76 (dk_at dksX0_paint_1 4 rfl rfl)
theorem dX0_paint_29 : decode cX0_paint 29 = .ok (.aload_n 0, 1) := dk_42 (dk_at dksX0_paint_1 7 rfl rfl)
theorem dX0_paint_30 : decode cX0_paint 30 = .ok (.getfield 76, 3) := dk_180 0 76 (dk_at dksX0_paint_1 8 rfl rfl)
theorem dX0_paint_33 : decode cX0_paint 33 = .ok (.ifCond .ne 13, 3) := dk_154 0 13 (dk_at dksX0_paint_1 11 rfl rfl)
theorem dX0_paint_36 : decode cX0_paint 36 = .ok (.aload_n 0, 1) := dk_42 (dk_at dksX0_paint_1 14 rfl rfl)
theorem dX0_paint_37 : decode cX0_paint 37 = .ok (.invokevirtual 153, 3) := dk_182 0 153 (dk_at dksX0_paint_1 15 rfl rfl)
theorem dX0_paint_40 : decode cX0_paint 40 = .ok (.getfield 255, 3) := dk_180 0 255 (dk_at dksX0_paint_1 18 rfl rfl)
theorem dX0_paint_43 : decode cX0_paint 43 = .ok (.iload_n 1, 1) := dk_27 (dk_at dksX0_paint_1 21 rfl rfl)
theorem dX0_paint_44 : decode cX0_paint 44 = .ok (.iload_n 2, 1) := dk_28 (dk_at dksX0_paint_1 22 rfl rfl)
theorem dX0_paint_45 : decode cX0_paint 45 = .ok (.iastore, 1) := dk_79 (dk_at dksX0_paint_1 23 rfl rfl)
theorem dX0_paint_46 : decode cX0_paint 46 = .ok (.aload_n 0, 1) := dk_42 (dk_at dksX0_paint_2 0 rfl rfl)
theorem dX0_paint_47 : decode cX0_paint 47 = .ok (.getfield 76, 3) := dk_180 0 76 (dk_at dksX0_paint_2 1 rfl rfl)
theorem dX0_paint_50 : decode cX0_paint 50 = .ok (.ifCond .ne 7, 3) := dk_154 0 7 (dk_at dksX0_paint_2 4 rfl rfl)
theorem dX0_paint_53 : decode cX0_paint 53 = .ok (.iconst 1, 1) := dk_4 (dk_at dksX0_paint_2 7 rfl rfl)
theorem dX0_paint_54 : decode cX0_paint 54 = .ok (.goto 4, 3) := dk_167 0 4 (dk_at dksX0_paint_2 8 rfl rfl)
theorem dX0_paint_57 : decode cX0_paint 57 = .ok (.iconst 0, 1) := dk_3 (dk_at dksX0_paint_2 11 rfl rfl)
theorem dX0_paint_58 : decode cX0_paint 58 = .ok (.ireturn, 1) := dk_172 (dk_at dksX0_paint_2 12 rfl rfl)
abbrev cX0_come : ByteArray := prog_1_method_48_code
def yX0_come : MethodName := ⟨RX0, "come", "(I)I"⟩
def dkwX0_come_2 : List UInt8 := [182, 0, 153, 27, 182, 1, 45, 42, 182, 0, 153, 180, 0, 164, 4, 100, 172]
abbrev dktX0_come_2 : List UInt8 := dkwX0_come_2 ++ []
def dkwX0_come_1 : List UInt8 := [16, 8, 160, 0, 7, 7, 167, 0, 4, 3, 181, 0, 76, 42, 180, 0, 76, 158, 0, 5, 2, 172, 42]
abbrev dktX0_come_1 : List UInt8 := dkwX0_come_1 ++ dktX0_come_2
def dkwX0_come_0 : List UInt8 := [42, 27, 133, 9, 20, 1, 38, 184, 0, 160, 154, 0, 7, 4, 167, 0, 20, 42, 182, 0, 153, 180, 0, 164]
abbrev dktX0_come_0 : List UInt8 := dkwX0_come_0 ++ dktX0_come_1
theorem dksX0_come_0 : cX0_come.data.toList.drop 0 = dktX0_come_0 := by decide +kernel
theorem dksX0_come_1 : cX0_come.data.toList.drop 24 = dktX0_come_1 := dk_seg dksX0_come_0 24 rfl rfl
theorem dksX0_come_2 : cX0_come.data.toList.drop 47 = dktX0_come_2 := dk_seg dksX0_come_1 23 rfl rfl
theorem dX0_come_0 : decode cX0_come 0 = .ok (.aload_n 0, 1) := dk_42 (dk_at dksX0_come_0 0 rfl rfl)
theorem dX0_come_1 : decode cX0_come 1 = .ok (.iload_n 1, 1) := dk_27 (dk_at dksX0_come_0 1 rfl rfl)
theorem dX0_come_2 : decode cX0_come 2 = .ok (.i2l, 1) := dk_133 (dk_at dksX0_come_0 2 rfl rfl)
theorem dX0_come_3 : decode cX0_come 3 = .ok (.lconst 0, 1) := dk_9 (dk_at dksX0_come_0 3 rfl rfl)
theorem dX0_come_4 : decode cX0_come 4 = .ok (.ldc2_w 294, 3) := dk_20 1 38 (dk_at dksX0_come_0 4 rfl rfl)
theorem dX0_come_7 : decode cX0_come 7 = .ok (.invokestatic 160, 3) := dk_184 0 160 (dk_at dksX0_come_0 7 rfl rfl)
theorem dX0_come_10 : decode cX0_come 10 = .ok (.ifCond .ne 7, 3) := dk_154 0 7 (dk_at dksX0_come_0 10 rfl rfl)
theorem dX0_come_13 : decode cX0_come 13 = .ok (.iconst 1, 1) := dk_4 (dk_at dksX0_come_0 13 rfl rfl)
theorem dX0_come_14 : decode cX0_come 14 = .ok (.goto 20, 3) := dk_167 0 20 (dk_at dksX0_come_0 14 rfl rfl)
theorem dX0_come_17 : decode cX0_come 17 = .ok (.aload_n 0, 1) := dk_42 (dk_at dksX0_come_0 17 rfl rfl)
theorem dX0_come_18 : decode cX0_come 18 = .ok (.invokevirtual 153, 3) := dk_182 0 153 (dk_at dksX0_come_0 18 rfl rfl)
theorem dX0_come_21 : decode cX0_come 21 = .ok (.getfield 164, 3) := dk_180 0 164 (dk_at dksX0_come_0 21 rfl rfl)
theorem dX0_come_24 : decode cX0_come 24 = .ok (.bipush 8, 2) := dk_16 8 (dk_at dksX0_come_1 0 rfl rfl)
theorem dX0_come_26 : decode cX0_come 26 = .ok (.if_icmp .ne 7, 3) := dk_160 0 7 (dk_at dksX0_come_1 2 rfl rfl)
theorem dX0_come_29 : decode cX0_come 29 = .ok (.iconst 4, 1) := dk_7 (dk_at dksX0_come_1 5 rfl rfl)
theorem dX0_come_30 : decode cX0_come 30 = .ok (.goto 4, 3) := dk_167 0 4 (dk_at dksX0_come_1 6 rfl rfl)
theorem dX0_come_33 : decode cX0_come 33 = .ok (.iconst 0, 1) := dk_3 (dk_at dksX0_come_1 9 rfl rfl)
theorem dX0_come_34 : decode cX0_come 34 = .ok (.putfield 76, 3) := dk_181 0 76 (dk_at dksX0_come_1 10 rfl rfl)
theorem dX0_come_37 : decode cX0_come 37 = .ok (.aload_n 0, 1) := dk_42 (dk_at dksX0_come_1 13 rfl rfl)
theorem dX0_come_38 : decode cX0_come 38 = .ok (.getfield 76, 3) := dk_180 0 76 (dk_at dksX0_come_1 14 rfl rfl)
theorem dX0_come_41 : decode cX0_come 41 = .ok (.ifCond .le 5, 3) := dk_158 0 5 (dk_at dksX0_come_1 17 rfl rfl)
theorem dX0_come_44 : decode cX0_come 44 = .ok (.iconst (-1), 1) := dk_2 (dk_at dksX0_come_1 20 rfl rfl)
theorem dX0_come_45 : decode cX0_come 45 = .ok (.ireturn, 1) := dk_172 (dk_at dksX0_come_1 21 rfl rfl)
theorem dX0_come_46 : decode cX0_come 46 = .ok (.aload_n 0, 1) := dk_42 (dk_at dksX0_come_1 22 rfl rfl)
theorem dX0_come_47 : decode cX0_come 47 = .ok (.invokevirtual 153, 3) := dk_182 0 153 (dk_at dksX0_come_2 0 rfl rfl)
theorem dX0_come_50 : decode cX0_come 50 = .ok (.iload_n 1, 1) := dk_27 (dk_at dksX0_come_2 3 rfl rfl)
theorem dX0_come_51 : decode cX0_come 51 = .ok (.invokevirtual 301, 3) := dk_182 1 45 (dk_at dksX0_come_2 4 rfl rfl)
theorem dX0_come_54 : decode cX0_come 54 = .ok (.aload_n 0, 1) := dk_42 (dk_at dksX0_come_2 7 rfl rfl)
theorem dX0_come_55 : decode cX0_come 55 = .ok (.invokevirtual 153, 3) := dk_182 0 153 (dk_at dksX0_come_2 8 rfl rfl)
theorem dX0_come_58 : decode cX0_come 58 = .ok (.getfield 164, 3) := dk_180 0 164 (dk_at dksX0_come_2 11 rfl rfl)
theorem dX0_come_61 : decode cX0_come 61 = .ok (.iconst 1, 1) := dk_4 (dk_at dksX0_come_2 14 rfl rfl)
theorem dX0_come_62 : decode cX0_come 62 = .ok (.isub, 1) := dk_100 (dk_at dksX0_come_2 15 rfl rfl)
theorem dX0_come_63 : decode cX0_come 63 = .ok (.ireturn, 1) := dk_172 (dk_at dksX0_come_2 16 rfl rfl)
abbrev cX0_rule : ByteArray := prog_1_method_49_code
def yX0_rule : MethodName := ⟨RX0, "rule", "(II)Z"⟩
def dkwX0_rule_4 : List UInt8 := [160, 0, 14, 42, 182, 0, 153, 28, 181, 0, 231, 167, 0, 11, 42, 182, 0, 153, 28, 181, 0, 234, 4, 172]
abbrev dktX0_rule_4 : List UInt8 := dkwX0_rule_4 ++ []
def dkwX0_rule_3 : List UInt8 := [154, 0, 5, 3, 172, 27, 5, 160, 0, 14, 42, 182, 0, 153, 28, 181, 0, 228, 167, 0, 27, 27, 6]
abbrev dktX0_rule_3 : List UInt8 := dkwX0_rule_3 ++ dktX0_rule_4
def dkwX0_rule_2 : List UInt8 := [153, 0, 7, 4, 167, 0, 4, 3, 62, 42, 29, 153, 0, 7, 3, 167, 0, 4, 4, 181, 0, 76, 29]
abbrev dktX0_rule_2 : List UInt8 := dkwX0_rule_2 ++ dktX0_rule_3
def dkwX0_rule_1 : List UInt8 := [9, 20, 1, 48, 184, 0, 160, 167, 0, 25, 27, 7, 160, 0, 19, 28, 133, 9, 20, 1, 50, 184, 0, 160]
abbrev dktX0_rule_1 : List UInt8 := dkwX0_rule_1 ++ dktX0_rule_2
def dkwX0_rule_0 : List UInt8 := [27, 5, 160, 0, 15, 28, 133, 10, 20, 1, 38, 184, 0, 160, 167, 0, 42, 27, 6, 160, 0, 15, 28, 133]
abbrev dktX0_rule_0 : List UInt8 := dkwX0_rule_0 ++ dktX0_rule_1
theorem dksX0_rule_0 : cX0_rule.data.toList.drop 0 = dktX0_rule_0 := by decide +kernel
theorem dksX0_rule_1 : cX0_rule.data.toList.drop 24 = dktX0_rule_1 := dk_seg dksX0_rule_0 24 rfl rfl
theorem dksX0_rule_2 : cX0_rule.data.toList.drop 48 = dktX0_rule_2 := dk_seg dksX0_rule_1 24 rfl rfl
theorem dksX0_rule_3 : cX0_rule.data.toList.drop 71 = dktX0_rule_3 := dk_seg dksX0_rule_2 23 rfl rfl
theorem dksX0_rule_4 : cX0_rule.data.toList.drop 94 = dktX0_rule_4 := dk_seg dksX0_rule_3 23 rfl rfl
theorem dX0_rule_0 : decode cX0_rule 0 = .ok (.iload_n 1, 1) := dk_27 (dk_at dksX0_rule_0 0 rfl rfl)
theorem dX0_rule_1 : decode cX0_rule 1 = .ok (.iconst 2, 1) := dk_5 (dk_at dksX0_rule_0 1 rfl rfl)
theorem dX0_rule_2 : decode cX0_rule 2 = .ok (.if_icmp .ne 15, 3) := dk_160 0 15 (dk_at dksX0_rule_0 2 rfl rfl)
theorem dX0_rule_5 : decode cX0_rule 5 = .ok (.iload_n 2, 1) := dk_28 (dk_at dksX0_rule_0 5 rfl rfl)
theorem dX0_rule_6 : decode cX0_rule 6 = .ok (.i2l, 1) := dk_133 (dk_at dksX0_rule_0 6 rfl rfl)
theorem dX0_rule_7 : decode cX0_rule 7 = .ok (.lconst 1, 1) := dk_10 (dk_at dksX0_rule_0 7 rfl rfl)
theorem dX0_rule_8 : decode cX0_rule 8 = .ok (.ldc2_w 294, 3) := dk_20 1 38 (dk_at dksX0_rule_0 8 rfl rfl)
theorem dX0_rule_11 : decode cX0_rule 11 = .ok (.invokestatic 160, 3) := dk_184 0 160 (dk_at dksX0_rule_0 11 rfl rfl)
theorem dX0_rule_14 : decode cX0_rule 14 = .ok (.goto 42, 3) := dk_167 0 42 (dk_at dksX0_rule_0 14 rfl rfl)
theorem dX0_rule_17 : decode cX0_rule 17 = .ok (.iload_n 1, 1) := dk_27 (dk_at dksX0_rule_0 17 rfl rfl)
theorem dX0_rule_18 : decode cX0_rule 18 = .ok (.iconst 3, 1) := dk_6 (dk_at dksX0_rule_0 18 rfl rfl)
theorem dX0_rule_19 : decode cX0_rule 19 = .ok (.if_icmp .ne 15, 3) := dk_160 0 15 (dk_at dksX0_rule_0 19 rfl rfl)
theorem dX0_rule_22 : decode cX0_rule 22 = .ok (.iload_n 2, 1) := dk_28 (dk_at dksX0_rule_0 22 rfl rfl)
theorem dX0_rule_23 : decode cX0_rule 23 = .ok (.i2l, 1) := dk_133 (dk_at dksX0_rule_0 23 rfl rfl)
theorem dX0_rule_24 : decode cX0_rule 24 = .ok (.lconst 0, 1) := dk_9 (dk_at dksX0_rule_1 0 rfl rfl)
theorem dX0_rule_25 : decode cX0_rule 25 = .ok (.ldc2_w 304, 3) := dk_20 1 48 (dk_at dksX0_rule_1 1 rfl rfl)
theorem dX0_rule_28 : decode cX0_rule 28 = .ok (.invokestatic 160, 3) := dk_184 0 160 (dk_at dksX0_rule_1 4 rfl rfl)
theorem dX0_rule_31 : decode cX0_rule 31 = .ok (.goto 25, 3) := dk_167 0 25 (dk_at dksX0_rule_1 7 rfl rfl)
theorem dX0_rule_34 : decode cX0_rule 34 = .ok (.iload_n 1, 1) := dk_27 (dk_at dksX0_rule_1 10 rfl rfl)
theorem dX0_rule_35 : decode cX0_rule 35 = .ok (.iconst 4, 1) := dk_7 (dk_at dksX0_rule_1 11 rfl rfl)
theorem dX0_rule_36 : decode cX0_rule 36 = .ok (.if_icmp .ne 19, 3) := dk_160 0 19 (dk_at dksX0_rule_1 12 rfl rfl)
theorem dX0_rule_39 : decode cX0_rule 39 = .ok (.iload_n 2, 1) := dk_28 (dk_at dksX0_rule_1 15 rfl rfl)
theorem dX0_rule_40 : decode cX0_rule 40 = .ok (.i2l, 1) := dk_133 (dk_at dksX0_rule_1 16 rfl rfl)
theorem dX0_rule_41 : decode cX0_rule 41 = .ok (.lconst 0, 1) := dk_9 (dk_at dksX0_rule_1 17 rfl rfl)
theorem dX0_rule_42 : decode cX0_rule 42 = .ok (.ldc2_w 306, 3) := dk_20 1 50 (dk_at dksX0_rule_1 18 rfl rfl)
theorem dX0_rule_45 : decode cX0_rule 45 = .ok (.invokestatic 160, 3) := dk_184 0 160 (dk_at dksX0_rule_1 21 rfl rfl)
theorem dX0_rule_48 : decode cX0_rule 48 = .ok (.ifCond .eq 7, 3) := dk_153 0 7 (dk_at dksX0_rule_2 0 rfl rfl)
theorem dX0_rule_51 : decode cX0_rule 51 = .ok (.iconst 1, 1) := dk_4 (dk_at dksX0_rule_2 3 rfl rfl)
theorem dX0_rule_52 : decode cX0_rule 52 = .ok (.goto 4, 3) := dk_167 0 4 (dk_at dksX0_rule_2 4 rfl rfl)
theorem dX0_rule_55 : decode cX0_rule 55 = .ok (.iconst 0, 1) := dk_3 (dk_at dksX0_rule_2 7 rfl rfl)
theorem dX0_rule_56 : decode cX0_rule 56 = .ok (.istore_n 3, 1) := dk_62 (dk_at dksX0_rule_2 8 rfl rfl)
theorem dX0_rule_57 : decode cX0_rule 57 = .ok (.aload_n 0, 1) := dk_42 (dk_at dksX0_rule_2 9 rfl rfl)
theorem dX0_rule_58 : decode cX0_rule 58 = .ok (.iload_n 3, 1) := dk_29 (dk_at dksX0_rule_2 10 rfl rfl)
theorem dX0_rule_59 : decode cX0_rule 59 = .ok (.ifCond .eq 7, 3) := dk_153 0 7 (dk_at dksX0_rule_2 11 rfl rfl)
theorem dX0_rule_62 : decode cX0_rule 62 = .ok (.iconst 0, 1) := dk_3 (dk_at dksX0_rule_2 14 rfl rfl)
theorem dX0_rule_63 : decode cX0_rule 63 = .ok (.goto 4, 3) := dk_167 0 4 (dk_at dksX0_rule_2 15 rfl rfl)
theorem dX0_rule_66 : decode cX0_rule 66 = .ok (.iconst 1, 1) := dk_4 (dk_at dksX0_rule_2 18 rfl rfl)
theorem dX0_rule_67 : decode cX0_rule 67 = .ok (.putfield 76, 3) := dk_181 0 76 (dk_at dksX0_rule_2 19 rfl rfl)
theorem dX0_rule_70 : decode cX0_rule 70 = .ok (.iload_n 3, 1) := dk_29 (dk_at dksX0_rule_2 22 rfl rfl)
theorem dX0_rule_71 : decode cX0_rule 71 = .ok (.ifCond .ne 5, 3) := dk_154 0 5 (dk_at dksX0_rule_3 0 rfl rfl)
theorem dX0_rule_74 : decode cX0_rule 74 = .ok (.iconst 0, 1) := dk_3 (dk_at dksX0_rule_3 3 rfl rfl)
theorem dX0_rule_75 : decode cX0_rule 75 = .ok (.ireturn, 1) := dk_172 (dk_at dksX0_rule_3 4 rfl rfl)
theorem dX0_rule_76 : decode cX0_rule 76 = .ok (.iload_n 1, 1) := dk_27 (dk_at dksX0_rule_3 5 rfl rfl)
theorem dX0_rule_77 : decode cX0_rule 77 = .ok (.iconst 2, 1) := dk_5 (dk_at dksX0_rule_3 6 rfl rfl)
theorem dX0_rule_78 : decode cX0_rule 78 = .ok (.if_icmp .ne 14, 3) := dk_160 0 14 (dk_at dksX0_rule_3 7 rfl rfl)
theorem dX0_rule_81 : decode cX0_rule 81 = .ok (.aload_n 0, 1) := dk_42 (dk_at dksX0_rule_3 10 rfl rfl)
theorem dX0_rule_82 : decode cX0_rule 82 = .ok (.invokevirtual 153, 3) := dk_182 0 153 (dk_at dksX0_rule_3 11 rfl rfl)
theorem dX0_rule_85 : decode cX0_rule 85 = .ok (.iload_n 2, 1) := dk_28 (dk_at dksX0_rule_3 14 rfl rfl)
theorem dX0_rule_86 : decode cX0_rule 86 = .ok (.putfield 228, 3) := dk_181 0 228 (dk_at dksX0_rule_3 15 rfl rfl)
theorem dX0_rule_89 : decode cX0_rule 89 = .ok (.goto 27, 3) := dk_167 0 27 (dk_at dksX0_rule_3 18 rfl rfl)
theorem dX0_rule_92 : decode cX0_rule 92 = .ok (.iload_n 1, 1) := dk_27 (dk_at dksX0_rule_3 21 rfl rfl)
theorem dX0_rule_93 : decode cX0_rule 93 = .ok (.iconst 3, 1) := dk_6 (dk_at dksX0_rule_3 22 rfl rfl)
theorem dX0_rule_94 : decode cX0_rule 94 = .ok (.if_icmp .ne 14, 3) := dk_160 0 14 (dk_at dksX0_rule_4 0 rfl rfl)
theorem dX0_rule_97 : decode cX0_rule 97 = .ok (.aload_n 0, 1) := dk_42 (dk_at dksX0_rule_4 3 rfl rfl)
theorem dX0_rule_98 : decode cX0_rule 98 = .ok (.invokevirtual 153, 3) := dk_182 0 153 (dk_at dksX0_rule_4 4 rfl rfl)
theorem dX0_rule_101 : decode cX0_rule 101 = .ok (.iload_n 2, 1) := dk_28 (dk_at dksX0_rule_4 7 rfl rfl)
theorem dX0_rule_102 : decode cX0_rule 102 = .ok (.putfield 231, 3) := dk_181 0 231 (dk_at dksX0_rule_4 8 rfl rfl)
theorem dX0_rule_105 : decode cX0_rule 105 = .ok (.goto 11, 3) := dk_167 0 11 (dk_at dksX0_rule_4 11 rfl rfl)
theorem dX0_rule_108 : decode cX0_rule 108 = .ok (.aload_n 0, 1) := dk_42 (dk_at dksX0_rule_4 14 rfl rfl)
theorem dX0_rule_109 : decode cX0_rule 109 = .ok (.invokevirtual 153, 3) := dk_182 0 153 (dk_at dksX0_rule_4 15 rfl rfl)
theorem dX0_rule_112 : decode cX0_rule 112 = .ok (.iload_n 2, 1) := dk_28 (dk_at dksX0_rule_4 18 rfl rfl)
theorem dX0_rule_113 : decode cX0_rule 113 = .ok (.putfield 234, 3) := dk_181 0 234 (dk_at dksX0_rule_4 19 rfl rfl)
theorem dX0_rule_116 : decode cX0_rule 116 = .ok (.iconst 1, 1) := dk_4 (dk_at dksX0_rule_4 22 rfl rfl)
theorem dX0_rule_117 : decode cX0_rule 117 = .ok (.ireturn, 1) := dk_172 (dk_at dksX0_rule_4 23 rfl rfl)
abbrev cX0_need : ByteArray := prog_1_method_50_code
def yX0_need : MethodName := ⟨RX0, "need", "(II)I"⟩
def dkwX0_need_1 : List UInt8 := [181, 0, 76, 42, 180, 0, 76, 158, 0, 7, 2, 167, 0, 12, 42, 182, 0, 153, 27, 28, 182, 1, 17, 172]
abbrev dktX0_need_1 : List UInt8 := dkwX0_need_1 ++ []
def dkwX0_need_0 : List UInt8 := [42, 42, 27, 182, 1, 9, 153, 0, 16, 42, 28, 133, 182, 1, 52, 153, 0, 7, 3, 167, 0, 4, 4]
abbrev dktX0_need_0 : List UInt8 := dkwX0_need_0 ++ dktX0_need_1
theorem dksX0_need_0 : cX0_need.data.toList.drop 0 = dktX0_need_0 := by decide +kernel
theorem dksX0_need_1 : cX0_need.data.toList.drop 23 = dktX0_need_1 := dk_seg dksX0_need_0 23 rfl rfl
theorem dX0_need_0 : decode cX0_need 0 = .ok (.aload_n 0, 1) := dk_42 (dk_at dksX0_need_0 0 rfl rfl)
theorem dX0_need_1 : decode cX0_need 1 = .ok (.aload_n 0, 1) := dk_42 (dk_at dksX0_need_0 1 rfl rfl)
theorem dX0_need_2 : decode cX0_need 2 = .ok (.iload_n 1, 1) := dk_27 (dk_at dksX0_need_0 2 rfl rfl)
theorem dX0_need_3 : decode cX0_need 3 = .ok (.invokevirtual 265, 3) := dk_182 1 9 (dk_at dksX0_need_0 3 rfl rfl)
theorem dX0_need_6 : decode cX0_need 6 = .ok (.ifCond .eq 16, 3) := dk_153 0 16 (dk_at dksX0_need_0 6 rfl rfl)
theorem dX0_need_9 : decode cX0_need 9 = .ok (.aload_n 0, 1) := dk_42 (dk_at dksX0_need_0 9 rfl rfl)
theorem dX0_need_10 : decode cX0_need 10 = .ok (.iload_n 2, 1) := dk_28 (dk_at dksX0_need_0 10 rfl rfl)
theorem dX0_need_11 : decode cX0_need 11 = .ok (.i2l, 1) := dk_133 (dk_at dksX0_need_0 11 rfl rfl)
theorem dX0_need_12 : decode cX0_need 12 = .ok (.invokevirtual 308, 3) := dk_182 1 52 (dk_at dksX0_need_0 12 rfl rfl)
theorem dX0_need_15 : decode cX0_need 15 = .ok (.ifCond .eq 7, 3) := dk_153 0 7 (dk_at dksX0_need_0 15 rfl rfl)
theorem dX0_need_18 : decode cX0_need 18 = .ok (.iconst 0, 1) := dk_3 (dk_at dksX0_need_0 18 rfl rfl)
theorem dX0_need_19 : decode cX0_need 19 = .ok (.goto 4, 3) := dk_167 0 4 (dk_at dksX0_need_0 19 rfl rfl)
theorem dX0_need_22 : decode cX0_need 22 = .ok (.iconst 1, 1) := dk_4 (dk_at dksX0_need_0 22 rfl rfl)
theorem dX0_need_23 : decode cX0_need 23 = .ok (.putfield 76, 3) := dk_181 0 76 (dk_at dksX0_need_1 0 rfl rfl)
theorem dX0_need_26 : decode cX0_need 26 = .ok (.aload_n 0, 1) := dk_42 (dk_at dksX0_need_1 3 rfl rfl)
theorem dX0_need_27 : decode cX0_need 27 = .ok (.getfield 76, 3) := dk_180 0 76 (dk_at dksX0_need_1 4 rfl rfl)
theorem dX0_need_30 : decode cX0_need 30 = .ok (.ifCond .le 7, 3) := dk_158 0 7 (dk_at dksX0_need_1 7 rfl rfl)
theorem dX0_need_33 : decode cX0_need 33 = .ok (.iconst (-1), 1) := dk_2 (dk_at dksX0_need_1 10 rfl rfl)
theorem dX0_need_34 : decode cX0_need 34 = .ok (.goto 12, 3) := dk_167 0 12 (dk_at dksX0_need_1 11 rfl rfl)
theorem dX0_need_37 : decode cX0_need 37 = .ok (.aload_n 0, 1) := dk_42 (dk_at dksX0_need_1 14 rfl rfl)
theorem dX0_need_38 : decode cX0_need 38 = .ok (.invokevirtual 153, 3) := dk_182 0 153 (dk_at dksX0_need_1 15 rfl rfl)
theorem dX0_need_41 : decode cX0_need 41 = .ok (.iload_n 1, 1) := dk_27 (dk_at dksX0_need_1 18 rfl rfl)
theorem dX0_need_42 : decode cX0_need 42 = .ok (.iload_n 2, 1) := dk_28 (dk_at dksX0_need_1 19 rfl rfl)
theorem dX0_need_43 : decode cX0_need 43 = .ok (.invokevirtual 273, 3) := dk_182 1 17 (dk_at dksX0_need_1 20 rfl rfl)
theorem dX0_need_46 : decode cX0_need 46 = .ok (.ireturn, 1) := dk_172 (dk_at dksX0_need_1 23 rfl rfl)
abbrev cX0_areOmens : ByteArray := prog_1_method_25_code
def yX0_areOmens : MethodName := ⟨RX0, "areOmens", "(J)Z"⟩
def dkwX0_areOmens_0 : List UInt8 := [31, 9, 42, 182, 0, 167, 133, 184, 0, 160, 172]
abbrev dktX0_areOmens_0 : List UInt8 := dkwX0_areOmens_0 ++ []
theorem dksX0_areOmens_0 : cX0_areOmens.data.toList.drop 0 = dktX0_areOmens_0 := by decide +kernel
theorem dX0_areOmens_0 : decode cX0_areOmens 0 = .ok (.lload_n 1, 1) := dk_31 (dk_at dksX0_areOmens_0 0 rfl rfl)
theorem dX0_areOmens_1 : decode cX0_areOmens 1 = .ok (.lconst 0, 1) := dk_9 (dk_at dksX0_areOmens_0 1 rfl rfl)
theorem dX0_areOmens_2 : decode cX0_areOmens 2 = .ok (.aload_n 0, 1) := dk_42 (dk_at dksX0_areOmens_0 2 rfl rfl)
theorem dX0_areOmens_3 : decode cX0_areOmens 3 = .ok (.invokevirtual 167, 3) := dk_182 0 167 (dk_at dksX0_areOmens_0 3 rfl rfl)
theorem dX0_areOmens_6 : decode cX0_areOmens 6 = .ok (.i2l, 1) := dk_133 (dk_at dksX0_areOmens_0 6 rfl rfl)
theorem dX0_areOmens_7 : decode cX0_areOmens 7 = .ok (.invokestatic 160, 3) := dk_184 0 160 (dk_at dksX0_areOmens_0 7 rfl rfl)
theorem dX0_areOmens_10 : decode cX0_areOmens 10 = .ok (.ireturn, 1) := dk_172 (dk_at dksX0_areOmens_0 10 rfl rfl)
abbrev cX0_allOmens : ByteArray := prog_1_method_24_code
def yX0_allOmens : MethodName := ⟨RX0, "allOmens", "()I"⟩
def dkwX0_allOmens_0 : List UInt8 := [4, 42, 182, 0, 153, 180, 0, 157, 120, 4, 100, 172]
abbrev dktX0_allOmens_0 : List UInt8 := dkwX0_allOmens_0 ++ []
theorem dksX0_allOmens_0 : cX0_allOmens.data.toList.drop 0 = dktX0_allOmens_0 := by decide +kernel
theorem dX0_allOmens_0 : decode cX0_allOmens 0 = .ok (.iconst 1, 1) := dk_4 (dk_at dksX0_allOmens_0 0 rfl rfl)
theorem dX0_allOmens_1 : decode cX0_allOmens 1 = .ok (.aload_n 0, 1) := dk_42 (dk_at dksX0_allOmens_0 1 rfl rfl)
theorem dX0_allOmens_2 : decode cX0_allOmens 2 = .ok (.invokevirtual 153, 3) := dk_182 0 153 (dk_at dksX0_allOmens_0 2 rfl rfl)
theorem dX0_allOmens_5 : decode cX0_allOmens 5 = .ok (.getfield 157, 3) := dk_180 0 157 (dk_at dksX0_allOmens_0 5 rfl rfl)
theorem dX0_allOmens_8 : decode cX0_allOmens 8 = .ok (.ishl, 1) := dk_120 (dk_at dksX0_allOmens_0 8 rfl rfl)
theorem dX0_allOmens_9 : decode cX0_allOmens 9 = .ok (.iconst 1, 1) := dk_4 (dk_at dksX0_allOmens_0 9 rfl rfl)
theorem dX0_allOmens_10 : decode cX0_allOmens 10 = .ok (.isub, 1) := dk_100 (dk_at dksX0_allOmens_0 10 rfl rfl)
theorem dX0_allOmens_11 : decode cX0_allOmens 11 = .ok (.ireturn, 1) := dk_172 (dk_at dksX0_allOmens_0 11 rfl rfl)
abbrev cX0_roundOf : ByteArray := prog_1_method_51_code
def yX0_roundOf : MethodName := ⟨RX0, "roundOf", "(II)I"⟩
def dkwX0_roundOf_4 : List UInt8 := [172]
abbrev dktX0_roundOf_4 : List UInt8 := dkwX0_roundOf_4 ++ []
def dkwX0_roundOf_3 : List UInt8 := [184, 0, 177, 153, 0, 10, 42, 21, 4, 182, 1, 59, 172, 132, 4, 1, 167, 255, 221, 42, 2, 182, 1, 59]
abbrev dktX0_roundOf_3 : List UInt8 := dkwX0_roundOf_3 ++ dktX0_roundOf_4
def dkwX0_roundOf_2 : List UInt8 := [3, 62, 4, 54, 4, 21, 4, 16, 8, 163, 0, 34, 42, 182, 0, 153, 28, 29, 182, 1, 56, 62, 29, 27]
abbrev dktX0_roundOf_2 : List UInt8 := dkwX0_roundOf_2 ++ dktX0_roundOf_3
def dkwX0_roundOf_1 : List UInt8 := [182, 1, 21, 153, 0, 7, 3, 167, 0, 5, 16, 7, 181, 0, 76, 42, 180, 0, 76, 158, 0, 5, 2, 172]
abbrev dktX0_roundOf_1 : List UInt8 := dkwX0_roundOf_1 ++ dktX0_roundOf_2
def dkwX0_roundOf_0 : List UInt8 := [42, 42, 27, 182, 1, 9, 153, 0, 12, 42, 28, 133, 182, 1, 52, 154, 0, 7, 4, 167, 0, 17, 42, 27]
abbrev dktX0_roundOf_0 : List UInt8 := dkwX0_roundOf_0 ++ dktX0_roundOf_1
theorem dksX0_roundOf_0 : cX0_roundOf.data.toList.drop 0 = dktX0_roundOf_0 := by decide +kernel
theorem dksX0_roundOf_1 : cX0_roundOf.data.toList.drop 24 = dktX0_roundOf_1 := dk_seg dksX0_roundOf_0 24 rfl rfl
theorem dksX0_roundOf_2 : cX0_roundOf.data.toList.drop 48 = dktX0_roundOf_2 := dk_seg dksX0_roundOf_1 24 rfl rfl
theorem dksX0_roundOf_3 : cX0_roundOf.data.toList.drop 72 = dktX0_roundOf_3 := dk_seg dksX0_roundOf_2 24 rfl rfl
theorem dksX0_roundOf_4 : cX0_roundOf.data.toList.drop 96 = dktX0_roundOf_4 := dk_seg dksX0_roundOf_3 24 rfl rfl
theorem dX0_roundOf_0 : decode cX0_roundOf 0 = .ok (.aload_n 0, 1) := dk_42 (dk_at dksX0_roundOf_0 0 rfl rfl)
theorem dX0_roundOf_1 : decode cX0_roundOf 1 = .ok (.aload_n 0, 1) := dk_42 (dk_at dksX0_roundOf_0 1 rfl rfl)
theorem dX0_roundOf_2 : decode cX0_roundOf 2 = .ok (.iload_n 1, 1) := dk_27 (dk_at dksX0_roundOf_0 2 rfl rfl)
theorem dX0_roundOf_3 : decode cX0_roundOf 3 = .ok (.invokevirtual 265, 3) := dk_182 1 9 (dk_at dksX0_roundOf_0 3 rfl rfl)
theorem dX0_roundOf_6 : decode cX0_roundOf 6 = .ok (.ifCond .eq 12, 3) := dk_153 0 12 (dk_at dksX0_roundOf_0 6 rfl rfl)
theorem dX0_roundOf_9 : decode cX0_roundOf 9 = .ok (.aload_n 0, 1) := dk_42 (dk_at dksX0_roundOf_0 9 rfl rfl)
theorem dX0_roundOf_10 : decode cX0_roundOf 10 = .ok (.iload_n 2, 1) := dk_28 (dk_at dksX0_roundOf_0 10 rfl rfl)
theorem dX0_roundOf_11 : decode cX0_roundOf 11 = .ok (.i2l, 1) := dk_133 (dk_at dksX0_roundOf_0 11 rfl rfl)
theorem dX0_roundOf_12 : decode cX0_roundOf 12 = .ok (.invokevirtual 308, 3) := dk_182 1 52 (dk_at dksX0_roundOf_0 12 rfl rfl)
theorem dX0_roundOf_15 : decode cX0_roundOf 15 = .ok (.ifCond .ne 7, 3) := dk_154 0 7 (dk_at dksX0_roundOf_0 15 rfl rfl)
theorem dX0_roundOf_18 : decode cX0_roundOf 18 = .ok (.iconst 1, 1) := dk_4 (dk_at dksX0_roundOf_0 18 rfl rfl)
theorem dX0_roundOf_19 : decode cX0_roundOf 19 = .ok (.goto 17, 3) := dk_167 0 17 (dk_at dksX0_roundOf_0 19 rfl rfl)
theorem dX0_roundOf_22 : decode cX0_roundOf 22 = .ok (.aload_n 0, 1) := dk_42 (dk_at dksX0_roundOf_0 22 rfl rfl)
theorem dX0_roundOf_23 : decode cX0_roundOf 23 = .ok (.iload_n 1, 1) := dk_27 (dk_at dksX0_roundOf_0 23 rfl rfl)
theorem dX0_roundOf_24 : decode cX0_roundOf 24 = .ok (.invokevirtual 277, 3) := dk_182 1 21 (dk_at dksX0_roundOf_1 0 rfl rfl)
theorem dX0_roundOf_27 : decode cX0_roundOf 27 = .ok (.ifCond .eq 7, 3) := dk_153 0 7 (dk_at dksX0_roundOf_1 3 rfl rfl)
theorem dX0_roundOf_30 : decode cX0_roundOf 30 = .ok (.iconst 0, 1) := dk_3 (dk_at dksX0_roundOf_1 6 rfl rfl)
theorem dX0_roundOf_31 : decode cX0_roundOf 31 = .ok (.goto 5, 3) := dk_167 0 5 (dk_at dksX0_roundOf_1 7 rfl rfl)
theorem dX0_roundOf_34 : decode cX0_roundOf 34 = .ok (.bipush 7, 2) := dk_16 7 (dk_at dksX0_roundOf_1 10 rfl rfl)
theorem dX0_roundOf_36 : decode cX0_roundOf 36 = .ok (.putfield 76, 3) := dk_181 0 76 (dk_at dksX0_roundOf_1 12 rfl rfl)
theorem dX0_roundOf_39 : decode cX0_roundOf 39 = .ok (.aload_n 0, 1) := dk_42 (dk_at dksX0_roundOf_1 15 rfl rfl)
theorem dX0_roundOf_40 : decode cX0_roundOf 40 = .ok (.getfield 76, 3) := dk_180 0 76 (dk_at dksX0_roundOf_1 16 rfl rfl)
theorem dX0_roundOf_43 : decode cX0_roundOf 43 = .ok (.ifCond .le 5, 3) := dk_158 0 5 (dk_at dksX0_roundOf_1 19 rfl rfl)
theorem dX0_roundOf_46 : decode cX0_roundOf 46 = .ok (.iconst (-1), 1) := dk_2 (dk_at dksX0_roundOf_1 22 rfl rfl)
theorem dX0_roundOf_47 : decode cX0_roundOf 47 = .ok (.ireturn, 1) := dk_172 (dk_at dksX0_roundOf_1 23 rfl rfl)
theorem dX0_roundOf_48 : decode cX0_roundOf 48 = .ok (.iconst 0, 1) := dk_3 (dk_at dksX0_roundOf_2 0 rfl rfl)
theorem dX0_roundOf_49 : decode cX0_roundOf 49 = .ok (.istore_n 3, 1) := dk_62 (dk_at dksX0_roundOf_2 1 rfl rfl)
theorem dX0_roundOf_50 : decode cX0_roundOf 50 = .ok (.iconst 1, 1) := dk_4 (dk_at dksX0_roundOf_2 2 rfl rfl)
theorem dX0_roundOf_51 : decode cX0_roundOf 51 = .ok (.istore 4, 2) := dk_54 4 (dk_at dksX0_roundOf_2 3 rfl rfl)
theorem dX0_roundOf_53 : decode cX0_roundOf 53 = .ok (.iload 4, 2) := dk_21 4 (dk_at dksX0_roundOf_2 5 rfl rfl)
theorem dX0_roundOf_55 : decode cX0_roundOf 55 = .ok (.bipush 8, 2) := dk_16 8 (dk_at dksX0_roundOf_2 7 rfl rfl)
theorem dX0_roundOf_57 : decode cX0_roundOf 57 = .ok (.if_icmp .gt 34, 3) := dk_163 0 34 (dk_at dksX0_roundOf_2 9 rfl rfl)
theorem dX0_roundOf_60 : decode cX0_roundOf 60 = .ok (.aload_n 0, 1) := dk_42 (dk_at dksX0_roundOf_2 12 rfl rfl)
theorem dX0_roundOf_61 : decode cX0_roundOf 61 = .ok (.invokevirtual 153, 3) := dk_182 0 153 (dk_at dksX0_roundOf_2 13 rfl rfl)
theorem dX0_roundOf_64 : decode cX0_roundOf 64 = .ok (.iload_n 2, 1) := dk_28 (dk_at dksX0_roundOf_2 16 rfl rfl)
theorem dX0_roundOf_65 : decode cX0_roundOf 65 = .ok (.iload_n 3, 1) := dk_29 (dk_at dksX0_roundOf_2 17 rfl rfl)
theorem dX0_roundOf_66 : decode cX0_roundOf 66 = .ok (.invokevirtual 312, 3) := dk_182 1 56 (dk_at dksX0_roundOf_2 18 rfl rfl)
theorem dX0_roundOf_69 : decode cX0_roundOf 69 = .ok (.istore_n 3, 1) := dk_62 (dk_at dksX0_roundOf_2 21 rfl rfl)
theorem dX0_roundOf_70 : decode cX0_roundOf 70 = .ok (.iload_n 3, 1) := dk_29 (dk_at dksX0_roundOf_2 22 rfl rfl)
theorem dX0_roundOf_71 : decode cX0_roundOf 71 = .ok (.iload_n 1, 1) := dk_27 (dk_at dksX0_roundOf_2 23 rfl rfl)
theorem dX0_roundOf_72 : decode cX0_roundOf 72 = .ok (.invokestatic 177, 3) := dk_184 0 177 (dk_at dksX0_roundOf_3 0 rfl rfl)
theorem dX0_roundOf_75 : decode cX0_roundOf 75 = .ok (.ifCond .eq 10, 3) := dk_153 0 10 (dk_at dksX0_roundOf_3 3 rfl rfl)
theorem dX0_roundOf_78 : decode cX0_roundOf 78 = .ok (.aload_n 0, 1) := dk_42 (dk_at dksX0_roundOf_3 6 rfl rfl)
theorem dX0_roundOf_79 : decode cX0_roundOf 79 = .ok (.iload 4, 2) := dk_21 4 (dk_at dksX0_roundOf_3 7 rfl rfl)
theorem dX0_roundOf_81 : decode cX0_roundOf 81 = .ok (.invokevirtual 315, 3) := dk_182 1 59 (dk_at dksX0_roundOf_3 9 rfl rfl)
theorem dX0_roundOf_84 : decode cX0_roundOf 84 = .ok (.ireturn, 1) := dk_172 (dk_at dksX0_roundOf_3 12 rfl rfl)
theorem dX0_roundOf_85 : decode cX0_roundOf 85 = .ok (.iinc 4 1, 3) := dk_132 4 1 (dk_at dksX0_roundOf_3 13 rfl rfl)
theorem dX0_roundOf_88 : decode cX0_roundOf 88 = .ok (.goto (-35), 3) := dk_167 255 221 (dk_at dksX0_roundOf_3 16 rfl rfl)
theorem dX0_roundOf_91 : decode cX0_roundOf 91 = .ok (.aload_n 0, 1) := dk_42 (dk_at dksX0_roundOf_3 19 rfl rfl)
theorem dX0_roundOf_92 : decode cX0_roundOf 92 = .ok (.iconst (-1), 1) := dk_2 (dk_at dksX0_roundOf_3 20 rfl rfl)
theorem dX0_roundOf_93 : decode cX0_roundOf 93 = .ok (.invokevirtual 315, 3) := dk_182 1 59 (dk_at dksX0_roundOf_3 21 rfl rfl)
theorem dX0_roundOf_96 : decode cX0_roundOf 96 = .ok (.ireturn, 1) := dk_172 (dk_at dksX0_roundOf_4 0 rfl rfl)
abbrev cX0_answer : ByteArray := prog_1_method_28_code
def yX0_answer : MethodName := ⟨RX0, "answer", "(I)I"⟩
def dkwX0_answer_0 : List UInt8 := [42, 27, 156, 0, 8, 16, 6, 167, 0, 4, 3, 181, 0, 76, 27, 172]
abbrev dktX0_answer_0 : List UInt8 := dkwX0_answer_0 ++ []
theorem dksX0_answer_0 : cX0_answer.data.toList.drop 0 = dktX0_answer_0 := by decide +kernel
theorem dX0_answer_0 : decode cX0_answer 0 = .ok (.aload_n 0, 1) := dk_42 (dk_at dksX0_answer_0 0 rfl rfl)
theorem dX0_answer_1 : decode cX0_answer 1 = .ok (.iload_n 1, 1) := dk_27 (dk_at dksX0_answer_0 1 rfl rfl)
theorem dX0_answer_2 : decode cX0_answer 2 = .ok (.ifCond .ge 8, 3) := dk_156 0 8 (dk_at dksX0_answer_0 2 rfl rfl)
theorem dX0_answer_5 : decode cX0_answer 5 = .ok (.bipush 6, 2) := dk_16 6 (dk_at dksX0_answer_0 5 rfl rfl)
theorem dX0_answer_7 : decode cX0_answer 7 = .ok (.goto 4, 3) := dk_167 0 4 (dk_at dksX0_answer_0 7 rfl rfl)
theorem dX0_answer_10 : decode cX0_answer 10 = .ok (.iconst 0, 1) := dk_3 (dk_at dksX0_answer_0 10 rfl rfl)
theorem dX0_answer_11 : decode cX0_answer 11 = .ok (.putfield 76, 3) := dk_181 0 76 (dk_at dksX0_answer_0 11 rfl rfl)
theorem dX0_answer_14 : decode cX0_answer 14 = .ok (.iload_n 1, 1) := dk_27 (dk_at dksX0_answer_0 14 rfl rfl)
theorem dX0_answer_15 : decode cX0_answer 15 = .ok (.ireturn, 1) := dk_172 (dk_at dksX0_answer_0 15 rfl rfl)
abbrev cX0_outBy : ByteArray := prog_1_method_52_code
def yX0_outBy : MethodName := ⟨RX0, "outBy", "(I)I"⟩
def dkwX0_outBy_1 : List UInt8 := [158, 0, 7, 2, 167, 0, 11, 42, 182, 0, 153, 27, 182, 1, 62, 172]
abbrev dktX0_outBy_1 : List UInt8 := dkwX0_outBy_1 ++ []
def dkwX0_outBy_0 : List UInt8 := [42, 42, 27, 133, 182, 1, 52, 153, 0, 7, 3, 167, 0, 4, 4, 181, 0, 76, 42, 180, 0, 76]
abbrev dktX0_outBy_0 : List UInt8 := dkwX0_outBy_0 ++ dktX0_outBy_1
theorem dksX0_outBy_0 : cX0_outBy.data.toList.drop 0 = dktX0_outBy_0 := by decide +kernel
theorem dksX0_outBy_1 : cX0_outBy.data.toList.drop 22 = dktX0_outBy_1 := dk_seg dksX0_outBy_0 22 rfl rfl
theorem dX0_outBy_0 : decode cX0_outBy 0 = .ok (.aload_n 0, 1) := dk_42 (dk_at dksX0_outBy_0 0 rfl rfl)
theorem dX0_outBy_1 : decode cX0_outBy 1 = .ok (.aload_n 0, 1) := dk_42 (dk_at dksX0_outBy_0 1 rfl rfl)
theorem dX0_outBy_2 : decode cX0_outBy 2 = .ok (.iload_n 1, 1) := dk_27 (dk_at dksX0_outBy_0 2 rfl rfl)
theorem dX0_outBy_3 : decode cX0_outBy 3 = .ok (.i2l, 1) := dk_133 (dk_at dksX0_outBy_0 3 rfl rfl)
theorem dX0_outBy_4 : decode cX0_outBy 4 = .ok (.invokevirtual 308, 3) := dk_182 1 52 (dk_at dksX0_outBy_0 4 rfl rfl)
theorem dX0_outBy_7 : decode cX0_outBy 7 = .ok (.ifCond .eq 7, 3) := dk_153 0 7 (dk_at dksX0_outBy_0 7 rfl rfl)
theorem dX0_outBy_10 : decode cX0_outBy 10 = .ok (.iconst 0, 1) := dk_3 (dk_at dksX0_outBy_0 10 rfl rfl)
theorem dX0_outBy_11 : decode cX0_outBy 11 = .ok (.goto 4, 3) := dk_167 0 4 (dk_at dksX0_outBy_0 11 rfl rfl)
theorem dX0_outBy_14 : decode cX0_outBy 14 = .ok (.iconst 1, 1) := dk_4 (dk_at dksX0_outBy_0 14 rfl rfl)
theorem dX0_outBy_15 : decode cX0_outBy 15 = .ok (.putfield 76, 3) := dk_181 0 76 (dk_at dksX0_outBy_0 15 rfl rfl)
theorem dX0_outBy_18 : decode cX0_outBy 18 = .ok (.aload_n 0, 1) := dk_42 (dk_at dksX0_outBy_0 18 rfl rfl)
theorem dX0_outBy_19 : decode cX0_outBy 19 = .ok (.getfield 76, 3) := dk_180 0 76 (dk_at dksX0_outBy_0 19 rfl rfl)
theorem dX0_outBy_22 : decode cX0_outBy 22 = .ok (.ifCond .le 7, 3) := dk_158 0 7 (dk_at dksX0_outBy_1 0 rfl rfl)
theorem dX0_outBy_25 : decode cX0_outBy 25 = .ok (.iconst (-1), 1) := dk_2 (dk_at dksX0_outBy_1 3 rfl rfl)
theorem dX0_outBy_26 : decode cX0_outBy 26 = .ok (.goto 11, 3) := dk_167 0 11 (dk_at dksX0_outBy_1 4 rfl rfl)
theorem dX0_outBy_29 : decode cX0_outBy 29 = .ok (.aload_n 0, 1) := dk_42 (dk_at dksX0_outBy_1 7 rfl rfl)
theorem dX0_outBy_30 : decode cX0_outBy 30 = .ok (.invokevirtual 153, 3) := dk_182 0 153 (dk_at dksX0_outBy_1 8 rfl rfl)
theorem dX0_outBy_33 : decode cX0_outBy 33 = .ok (.iload_n 1, 1) := dk_27 (dk_at dksX0_outBy_1 11 rfl rfl)
theorem dX0_outBy_34 : decode cX0_outBy 34 = .ok (.invokevirtual 318, 3) := dk_182 1 62 (dk_at dksX0_outBy_1 12 rfl rfl)
theorem dX0_outBy_37 : decode cX0_outBy 37 = .ok (.ireturn, 1) := dk_172 (dk_at dksX0_outBy_1 15 rfl rfl)
abbrev cX0_restBy : ByteArray := prog_1_method_53_code
def yX0_restBy : MethodName := ⟨RX0, "restBy", "(I)I"⟩
def dkwX0_restBy_1 : List UInt8 := [158, 0, 7, 2, 167, 0, 12, 42, 182, 0, 153, 27, 3, 182, 1, 65, 172]
abbrev dktX0_restBy_1 : List UInt8 := dkwX0_restBy_1 ++ []
def dkwX0_restBy_0 : List UInt8 := [42, 42, 27, 133, 182, 1, 52, 153, 0, 7, 3, 167, 0, 4, 4, 181, 0, 76, 42, 180, 0, 76]
abbrev dktX0_restBy_0 : List UInt8 := dkwX0_restBy_0 ++ dktX0_restBy_1
theorem dksX0_restBy_0 : cX0_restBy.data.toList.drop 0 = dktX0_restBy_0 := by decide +kernel
theorem dksX0_restBy_1 : cX0_restBy.data.toList.drop 22 = dktX0_restBy_1 := dk_seg dksX0_restBy_0 22 rfl rfl
theorem dX0_restBy_0 : decode cX0_restBy 0 = .ok (.aload_n 0, 1) := dk_42 (dk_at dksX0_restBy_0 0 rfl rfl)
theorem dX0_restBy_1 : decode cX0_restBy 1 = .ok (.aload_n 0, 1) := dk_42 (dk_at dksX0_restBy_0 1 rfl rfl)
theorem dX0_restBy_2 : decode cX0_restBy 2 = .ok (.iload_n 1, 1) := dk_27 (dk_at dksX0_restBy_0 2 rfl rfl)
theorem dX0_restBy_3 : decode cX0_restBy 3 = .ok (.i2l, 1) := dk_133 (dk_at dksX0_restBy_0 3 rfl rfl)
theorem dX0_restBy_4 : decode cX0_restBy 4 = .ok (.invokevirtual 308, 3) := dk_182 1 52 (dk_at dksX0_restBy_0 4 rfl rfl)
theorem dX0_restBy_7 : decode cX0_restBy 7 = .ok (.ifCond .eq 7, 3) := dk_153 0 7 (dk_at dksX0_restBy_0 7 rfl rfl)
theorem dX0_restBy_10 : decode cX0_restBy 10 = .ok (.iconst 0, 1) := dk_3 (dk_at dksX0_restBy_0 10 rfl rfl)
theorem dX0_restBy_11 : decode cX0_restBy 11 = .ok (.goto 4, 3) := dk_167 0 4 (dk_at dksX0_restBy_0 11 rfl rfl)
theorem dX0_restBy_14 : decode cX0_restBy 14 = .ok (.iconst 1, 1) := dk_4 (dk_at dksX0_restBy_0 14 rfl rfl)
theorem dX0_restBy_15 : decode cX0_restBy 15 = .ok (.putfield 76, 3) := dk_181 0 76 (dk_at dksX0_restBy_0 15 rfl rfl)
theorem dX0_restBy_18 : decode cX0_restBy 18 = .ok (.aload_n 0, 1) := dk_42 (dk_at dksX0_restBy_0 18 rfl rfl)
theorem dX0_restBy_19 : decode cX0_restBy 19 = .ok (.getfield 76, 3) := dk_180 0 76 (dk_at dksX0_restBy_0 19 rfl rfl)
theorem dX0_restBy_22 : decode cX0_restBy 22 = .ok (.ifCond .le 7, 3) := dk_158 0 7 (dk_at dksX0_restBy_1 0 rfl rfl)
theorem dX0_restBy_25 : decode cX0_restBy 25 = .ok (.iconst (-1), 1) := dk_2 (dk_at dksX0_restBy_1 3 rfl rfl)
theorem dX0_restBy_26 : decode cX0_restBy 26 = .ok (.goto 12, 3) := dk_167 0 12 (dk_at dksX0_restBy_1 4 rfl rfl)
theorem dX0_restBy_29 : decode cX0_restBy 29 = .ok (.aload_n 0, 1) := dk_42 (dk_at dksX0_restBy_1 7 rfl rfl)
theorem dX0_restBy_30 : decode cX0_restBy 30 = .ok (.invokevirtual 153, 3) := dk_182 0 153 (dk_at dksX0_restBy_1 8 rfl rfl)
theorem dX0_restBy_33 : decode cX0_restBy 33 = .ok (.iload_n 1, 1) := dk_27 (dk_at dksX0_restBy_1 11 rfl rfl)
theorem dX0_restBy_34 : decode cX0_restBy 34 = .ok (.iconst 0, 1) := dk_3 (dk_at dksX0_restBy_1 12 rfl rfl)
theorem dX0_restBy_35 : decode cX0_restBy 35 = .ok (.invokevirtual 321, 3) := dk_182 1 65 (dk_at dksX0_restBy_1 13 rfl rfl)
theorem dX0_restBy_38 : decode cX0_restBy 38 = .ok (.ireturn, 1) := dk_172 (dk_at dksX0_restBy_1 16 rfl rfl)
abbrev cX0_rounds : ByteArray := prog_1_method_54_code
def yX0_rounds : MethodName := ⟨RX0, "rounds", "(I)I"⟩
def dkwX0_rounds_1 : List UInt8 := [158, 0, 5, 2, 172, 42, 182, 0, 153, 27, 3, 182, 1, 65, 87, 42, 182, 0, 153, 180, 1, 68, 172]
abbrev dktX0_rounds_1 : List UInt8 := dkwX0_rounds_1 ++ []
def dkwX0_rounds_0 : List UInt8 := [42, 42, 27, 133, 182, 1, 52, 153, 0, 7, 3, 167, 0, 4, 4, 181, 0, 76, 42, 180, 0, 76]
abbrev dktX0_rounds_0 : List UInt8 := dkwX0_rounds_0 ++ dktX0_rounds_1
theorem dksX0_rounds_0 : cX0_rounds.data.toList.drop 0 = dktX0_rounds_0 := by decide +kernel
theorem dksX0_rounds_1 : cX0_rounds.data.toList.drop 22 = dktX0_rounds_1 := dk_seg dksX0_rounds_0 22 rfl rfl
theorem dX0_rounds_0 : decode cX0_rounds 0 = .ok (.aload_n 0, 1) := dk_42 (dk_at dksX0_rounds_0 0 rfl rfl)
theorem dX0_rounds_1 : decode cX0_rounds 1 = .ok (.aload_n 0, 1) := dk_42 (dk_at dksX0_rounds_0 1 rfl rfl)
theorem dX0_rounds_2 : decode cX0_rounds 2 = .ok (.iload_n 1, 1) := dk_27 (dk_at dksX0_rounds_0 2 rfl rfl)
theorem dX0_rounds_3 : decode cX0_rounds 3 = .ok (.i2l, 1) := dk_133 (dk_at dksX0_rounds_0 3 rfl rfl)
theorem dX0_rounds_4 : decode cX0_rounds 4 = .ok (.invokevirtual 308, 3) := dk_182 1 52 (dk_at dksX0_rounds_0 4 rfl rfl)
theorem dX0_rounds_7 : decode cX0_rounds 7 = .ok (.ifCond .eq 7, 3) := dk_153 0 7 (dk_at dksX0_rounds_0 7 rfl rfl)
theorem dX0_rounds_10 : decode cX0_rounds 10 = .ok (.iconst 0, 1) := dk_3 (dk_at dksX0_rounds_0 10 rfl rfl)
theorem dX0_rounds_11 : decode cX0_rounds 11 = .ok (.goto 4, 3) := dk_167 0 4 (dk_at dksX0_rounds_0 11 rfl rfl)
theorem dX0_rounds_14 : decode cX0_rounds 14 = .ok (.iconst 1, 1) := dk_4 (dk_at dksX0_rounds_0 14 rfl rfl)
theorem dX0_rounds_15 : decode cX0_rounds 15 = .ok (.putfield 76, 3) := dk_181 0 76 (dk_at dksX0_rounds_0 15 rfl rfl)
theorem dX0_rounds_18 : decode cX0_rounds 18 = .ok (.aload_n 0, 1) := dk_42 (dk_at dksX0_rounds_0 18 rfl rfl)
theorem dX0_rounds_19 : decode cX0_rounds 19 = .ok (.getfield 76, 3) := dk_180 0 76 (dk_at dksX0_rounds_0 19 rfl rfl)
theorem dX0_rounds_22 : decode cX0_rounds 22 = .ok (.ifCond .le 5, 3) := dk_158 0 5 (dk_at dksX0_rounds_1 0 rfl rfl)
theorem dX0_rounds_25 : decode cX0_rounds 25 = .ok (.iconst (-1), 1) := dk_2 (dk_at dksX0_rounds_1 3 rfl rfl)
theorem dX0_rounds_26 : decode cX0_rounds 26 = .ok (.ireturn, 1) := dk_172 (dk_at dksX0_rounds_1 4 rfl rfl)
theorem dX0_rounds_27 : decode cX0_rounds 27 = .ok (.aload_n 0, 1) := dk_42 (dk_at dksX0_rounds_1 5 rfl rfl)
theorem dX0_rounds_28 : decode cX0_rounds 28 = .ok (.invokevirtual 153, 3) := dk_182 0 153 (dk_at dksX0_rounds_1 6 rfl rfl)
theorem dX0_rounds_31 : decode cX0_rounds 31 = .ok (.iload_n 1, 1) := dk_27 (dk_at dksX0_rounds_1 9 rfl rfl)
theorem dX0_rounds_32 : decode cX0_rounds 32 = .ok (.iconst 0, 1) := dk_3 (dk_at dksX0_rounds_1 10 rfl rfl)
theorem dX0_rounds_33 : decode cX0_rounds 33 = .ok (.invokevirtual 321, 3) := dk_182 1 65 (dk_at dksX0_rounds_1 11 rfl rfl)
theorem dX0_rounds_36 : decode cX0_rounds 36 = .ok (.pop, 1) := dk_87 (dk_at dksX0_rounds_1 14 rfl rfl)
theorem dX0_rounds_37 : decode cX0_rounds 37 = .ok (.aload_n 0, 1) := dk_42 (dk_at dksX0_rounds_1 15 rfl rfl)
theorem dX0_rounds_38 : decode cX0_rounds 38 = .ok (.invokevirtual 153, 3) := dk_182 0 153 (dk_at dksX0_rounds_1 16 rfl rfl)
theorem dX0_rounds_41 : decode cX0_rounds 41 = .ok (.getfield 324, 3) := dk_180 1 68 (dk_at dksX0_rounds_1 19 rfl rfl)
theorem dX0_rounds_44 : decode cX0_rounds 44 = .ok (.ireturn, 1) := dk_172 (dk_at dksX0_rounds_1 22 rfl rfl)
abbrev cX0_atRest : ByteArray := prog_1_method_55_code
def yX0_atRest : MethodName := ⟨RX0, "atRest", "(II)I"⟩
def dkwX0_atRest_3 : List UInt8 := [167, 0, 4, 3, 172]
abbrev dktX0_atRest_3 : List UInt8 := dkwX0_atRest_3 ++ []
def dkwX0_atRest_2 : List UInt8 := [180, 0, 76, 158, 0, 7, 2, 167, 0, 20, 42, 182, 0, 153, 27, 28, 182, 1, 74, 153, 0, 7, 4]
abbrev dktX0_atRest_2 : List UInt8 := dkwX0_atRest_2 ++ dktX0_atRest_3
def dkwX0_atRest_1 : List UInt8 := [42, 182, 0, 153, 180, 0, 174, 2, 130, 126, 153, 0, 8, 16, 7, 167, 0, 4, 3, 181, 0, 76, 42]
abbrev dktX0_atRest_1 : List UInt8 := dkwX0_atRest_1 ++ dktX0_atRest_2
def dkwX0_atRest_0 : List UInt8 := [42, 42, 27, 133, 182, 1, 71, 153, 0, 12, 42, 28, 133, 182, 1, 52, 154, 0, 7, 4, 167, 0, 23, 27]
abbrev dktX0_atRest_0 : List UInt8 := dkwX0_atRest_0 ++ dktX0_atRest_1
theorem dksX0_atRest_0 : cX0_atRest.data.toList.drop 0 = dktX0_atRest_0 := by decide +kernel
theorem dksX0_atRest_1 : cX0_atRest.data.toList.drop 24 = dktX0_atRest_1 := dk_seg dksX0_atRest_0 24 rfl rfl
theorem dksX0_atRest_2 : cX0_atRest.data.toList.drop 47 = dktX0_atRest_2 := dk_seg dksX0_atRest_1 23 rfl rfl
theorem dksX0_atRest_3 : cX0_atRest.data.toList.drop 70 = dktX0_atRest_3 := dk_seg dksX0_atRest_2 23 rfl rfl
theorem dX0_atRest_0 : decode cX0_atRest 0 = .ok (.aload_n 0, 1) := dk_42 (dk_at dksX0_atRest_0 0 rfl rfl)
theorem dX0_atRest_1 : decode cX0_atRest 1 = .ok (.aload_n 0, 1) := dk_42 (dk_at dksX0_atRest_0 1 rfl rfl)
theorem dX0_atRest_2 : decode cX0_atRest 2 = .ok (.iload_n 1, 1) := dk_27 (dk_at dksX0_atRest_0 2 rfl rfl)
theorem dX0_atRest_3 : decode cX0_atRest 3 = .ok (.i2l, 1) := dk_133 (dk_at dksX0_atRest_0 3 rfl rfl)
theorem dX0_atRest_4 : decode cX0_atRest 4 = .ok (.invokevirtual 327, 3) := dk_182 1 71 (dk_at dksX0_atRest_0 4 rfl rfl)
theorem dX0_atRest_7 : decode cX0_atRest 7 = .ok (.ifCond .eq 12, 3) := dk_153 0 12 (dk_at dksX0_atRest_0 7 rfl rfl)
theorem dX0_atRest_10 : decode cX0_atRest 10 = .ok (.aload_n 0, 1) := dk_42 (dk_at dksX0_atRest_0 10 rfl rfl)
theorem dX0_atRest_11 : decode cX0_atRest 11 = .ok (.iload_n 2, 1) := dk_28 (dk_at dksX0_atRest_0 11 rfl rfl)
theorem dX0_atRest_12 : decode cX0_atRest 12 = .ok (.i2l, 1) := dk_133 (dk_at dksX0_atRest_0 12 rfl rfl)
theorem dX0_atRest_13 : decode cX0_atRest 13 = .ok (.invokevirtual 308, 3) := dk_182 1 52 (dk_at dksX0_atRest_0 13 rfl rfl)
theorem dX0_atRest_16 : decode cX0_atRest 16 = .ok (.ifCond .ne 7, 3) := dk_154 0 7 (dk_at dksX0_atRest_0 16 rfl rfl)
theorem dX0_atRest_19 : decode cX0_atRest 19 = .ok (.iconst 1, 1) := dk_4 (dk_at dksX0_atRest_0 19 rfl rfl)
theorem dX0_atRest_20 : decode cX0_atRest 20 = .ok (.goto 23, 3) := dk_167 0 23 (dk_at dksX0_atRest_0 20 rfl rfl)
theorem dX0_atRest_23 : decode cX0_atRest 23 = .ok (.iload_n 1, 1) := dk_27 (dk_at dksX0_atRest_0 23 rfl rfl)
theorem dX0_atRest_24 : decode cX0_atRest 24 = .ok (.aload_n 0, 1) := dk_42 (dk_at dksX0_atRest_1 0 rfl rfl)
theorem dX0_atRest_25 : decode cX0_atRest 25 = .ok (.invokevirtual 153, 3) := dk_182 0 153 (dk_at dksX0_atRest_1 1 rfl rfl)
theorem dX0_atRest_28 : decode cX0_atRest 28 = .ok (.getfield 174, 3) := dk_180 0 174 (dk_at dksX0_atRest_1 4 rfl rfl)
theorem dX0_atRest_31 : decode cX0_atRest 31 = .ok (.iconst (-1), 1) := dk_2 (dk_at dksX0_atRest_1 7 rfl rfl)
theorem dX0_atRest_32 : decode cX0_atRest 32 = .ok (.ixor, 1) := dk_130 (dk_at dksX0_atRest_1 8 rfl rfl)
theorem dX0_atRest_33 : decode cX0_atRest 33 = .ok (.iand, 1) := dk_126 (dk_at dksX0_atRest_1 9 rfl rfl)
theorem dX0_atRest_34 : decode cX0_atRest 34 = .ok (.ifCond .eq 8, 3) := dk_153 0 8 (dk_at dksX0_atRest_1 10 rfl rfl)
theorem dX0_atRest_37 : decode cX0_atRest 37 = .ok (.bipush 7, 2) := dk_16 7 (dk_at dksX0_atRest_1 13 rfl rfl)
theorem dX0_atRest_39 : decode cX0_atRest 39 = .ok (.goto 4, 3) := dk_167 0 4 (dk_at dksX0_atRest_1 15 rfl rfl)
theorem dX0_atRest_42 : decode cX0_atRest 42 = .ok (.iconst 0, 1) := dk_3 (dk_at dksX0_atRest_1 18 rfl rfl)
theorem dX0_atRest_43 : decode cX0_atRest 43 = .ok (.putfield 76, 3) := dk_181 0 76 (dk_at dksX0_atRest_1 19 rfl rfl)
theorem dX0_atRest_46 : decode cX0_atRest 46 = .ok (.aload_n 0, 1) := dk_42 (dk_at dksX0_atRest_1 22 rfl rfl)
theorem dX0_atRest_47 : decode cX0_atRest 47 = .ok (.getfield 76, 3) := dk_180 0 76 (dk_at dksX0_atRest_2 0 rfl rfl)
theorem dX0_atRest_50 : decode cX0_atRest 50 = .ok (.ifCond .le 7, 3) := dk_158 0 7 (dk_at dksX0_atRest_2 3 rfl rfl)
theorem dX0_atRest_53 : decode cX0_atRest 53 = .ok (.iconst (-1), 1) := dk_2 (dk_at dksX0_atRest_2 6 rfl rfl)
theorem dX0_atRest_54 : decode cX0_atRest 54 = .ok (.goto 20, 3) := dk_167 0 20 (dk_at dksX0_atRest_2 7 rfl rfl)
theorem dX0_atRest_57 : decode cX0_atRest 57 = .ok (.aload_n 0, 1) := dk_42 (dk_at dksX0_atRest_2 10 rfl rfl)
theorem dX0_atRest_58 : decode cX0_atRest 58 = .ok (.invokevirtual 153, 3) := dk_182 0 153 (dk_at dksX0_atRest_2 11 rfl rfl)
theorem dX0_atRest_61 : decode cX0_atRest 61 = .ok (.iload_n 1, 1) := dk_27 (dk_at dksX0_atRest_2 14 rfl rfl)
theorem dX0_atRest_62 : decode cX0_atRest 62 = .ok (.iload_n 2, 1) := dk_28 (dk_at dksX0_atRest_2 15 rfl rfl)
theorem dX0_atRest_63 : decode cX0_atRest 63 = .ok (.invokevirtual 330, 3) := dk_182 1 74 (dk_at dksX0_atRest_2 16 rfl rfl)
theorem dX0_atRest_66 : decode cX0_atRest 66 = .ok (.ifCond .eq 7, 3) := dk_153 0 7 (dk_at dksX0_atRest_2 19 rfl rfl)
theorem dX0_atRest_69 : decode cX0_atRest 69 = .ok (.iconst 1, 1) := dk_4 (dk_at dksX0_atRest_2 22 rfl rfl)
theorem dX0_atRest_70 : decode cX0_atRest 70 = .ok (.goto 4, 3) := dk_167 0 4 (dk_at dksX0_atRest_3 0 rfl rfl)
theorem dX0_atRest_73 : decode cX0_atRest 73 = .ok (.iconst 0, 1) := dk_3 (dk_at dksX0_atRest_3 3 rfl rfl)
theorem dX0_atRest_74 : decode cX0_atRest 74 = .ok (.ireturn, 1) := dk_172 (dk_at dksX0_atRest_3 4 rfl rfl)
abbrev cX0_arePeople : ByteArray := prog_1_method_26_code
def yX0_arePeople : MethodName := ⟨RX0, "arePeople", "(J)Z"⟩
def dkwX0_arePeople_0 : List UInt8 := [31, 9, 42, 182, 0, 153, 182, 0, 171, 133, 184, 0, 160, 172]
abbrev dktX0_arePeople_0 : List UInt8 := dkwX0_arePeople_0 ++ []
theorem dksX0_arePeople_0 : cX0_arePeople.data.toList.drop 0 = dktX0_arePeople_0 := by decide +kernel
theorem dX0_arePeople_0 : decode cX0_arePeople 0 = .ok (.lload_n 1, 1) := dk_31 (dk_at dksX0_arePeople_0 0 rfl rfl)
theorem dX0_arePeople_1 : decode cX0_arePeople 1 = .ok (.lconst 0, 1) := dk_9 (dk_at dksX0_arePeople_0 1 rfl rfl)
theorem dX0_arePeople_2 : decode cX0_arePeople 2 = .ok (.aload_n 0, 1) := dk_42 (dk_at dksX0_arePeople_0 2 rfl rfl)
theorem dX0_arePeople_3 : decode cX0_arePeople 3 = .ok (.invokevirtual 153, 3) := dk_182 0 153 (dk_at dksX0_arePeople_0 3 rfl rfl)
theorem dX0_arePeople_6 : decode cX0_arePeople 6 = .ok (.invokevirtual 171, 3) := dk_182 0 171 (dk_at dksX0_arePeople_0 6 rfl rfl)
theorem dX0_arePeople_9 : decode cX0_arePeople 9 = .ok (.i2l, 1) := dk_133 (dk_at dksX0_arePeople_0 9 rfl rfl)
theorem dX0_arePeople_10 : decode cX0_arePeople 10 = .ok (.invokestatic 160, 3) := dk_184 0 160 (dk_at dksX0_arePeople_0 10 rfl rfl)
theorem dX0_arePeople_13 : decode cX0_arePeople 13 = .ok (.ireturn, 1) := dk_172 (dk_at dksX0_arePeople_0 13 rfl rfl)
abbrev cX0_rests : ByteArray := prog_1_method_56_code
def yX0_rests : MethodName := ⟨RX0, "rests", "(I)I"⟩
def dkwX0_rests_3 : List UInt8 := [4, 167, 0, 4, 3, 96, 61, 132, 3, 1, 167, 255, 208, 28, 172]
abbrev dktX0_rests_3 : List UInt8 := dkwX0_rests_3 ++ []
def dkwX0_rests_2 : List UInt8 := [182, 0, 153, 180, 0, 174, 2, 130, 126, 154, 0, 19, 42, 182, 0, 153, 29, 27, 182, 1, 74, 153, 0, 7]
abbrev dktX0_rests_2 : List UInt8 := dkwX0_rests_2 ++ dktX0_rests_3
def dkwX0_rests_1 : List UInt8 := [158, 0, 5, 2, 172, 3, 61, 3, 62, 29, 42, 182, 0, 153, 180, 0, 174, 163, 0, 43, 28, 29, 42]
abbrev dktX0_rests_1 : List UInt8 := dkwX0_rests_1 ++ dktX0_rests_2
def dkwX0_rests_0 : List UInt8 := [42, 42, 27, 133, 182, 1, 52, 153, 0, 7, 3, 167, 0, 4, 4, 181, 0, 76, 42, 180, 0, 76]
abbrev dktX0_rests_0 : List UInt8 := dkwX0_rests_0 ++ dktX0_rests_1
theorem dksX0_rests_0 : cX0_rests.data.toList.drop 0 = dktX0_rests_0 := by decide +kernel
theorem dksX0_rests_1 : cX0_rests.data.toList.drop 22 = dktX0_rests_1 := dk_seg dksX0_rests_0 22 rfl rfl
theorem dksX0_rests_2 : cX0_rests.data.toList.drop 45 = dktX0_rests_2 := dk_seg dksX0_rests_1 23 rfl rfl
theorem dksX0_rests_3 : cX0_rests.data.toList.drop 69 = dktX0_rests_3 := dk_seg dksX0_rests_2 24 rfl rfl
theorem dX0_rests_0 : decode cX0_rests 0 = .ok (.aload_n 0, 1) := dk_42 (dk_at dksX0_rests_0 0 rfl rfl)
theorem dX0_rests_1 : decode cX0_rests 1 = .ok (.aload_n 0, 1) := dk_42 (dk_at dksX0_rests_0 1 rfl rfl)
theorem dX0_rests_2 : decode cX0_rests 2 = .ok (.iload_n 1, 1) := dk_27 (dk_at dksX0_rests_0 2 rfl rfl)
theorem dX0_rests_3 : decode cX0_rests 3 = .ok (.i2l, 1) := dk_133 (dk_at dksX0_rests_0 3 rfl rfl)
theorem dX0_rests_4 : decode cX0_rests 4 = .ok (.invokevirtual 308, 3) := dk_182 1 52 (dk_at dksX0_rests_0 4 rfl rfl)
theorem dX0_rests_7 : decode cX0_rests 7 = .ok (.ifCond .eq 7, 3) := dk_153 0 7 (dk_at dksX0_rests_0 7 rfl rfl)
theorem dX0_rests_10 : decode cX0_rests 10 = .ok (.iconst 0, 1) := dk_3 (dk_at dksX0_rests_0 10 rfl rfl)
theorem dX0_rests_11 : decode cX0_rests 11 = .ok (.goto 4, 3) := dk_167 0 4 (dk_at dksX0_rests_0 11 rfl rfl)
theorem dX0_rests_14 : decode cX0_rests 14 = .ok (.iconst 1, 1) := dk_4 (dk_at dksX0_rests_0 14 rfl rfl)
theorem dX0_rests_15 : decode cX0_rests 15 = .ok (.putfield 76, 3) := dk_181 0 76 (dk_at dksX0_rests_0 15 rfl rfl)
theorem dX0_rests_18 : decode cX0_rests 18 = .ok (.aload_n 0, 1) := dk_42 (dk_at dksX0_rests_0 18 rfl rfl)
theorem dX0_rests_19 : decode cX0_rests 19 = .ok (.getfield 76, 3) := dk_180 0 76 (dk_at dksX0_rests_0 19 rfl rfl)
theorem dX0_rests_22 : decode cX0_rests 22 = .ok (.ifCond .le 5, 3) := dk_158 0 5 (dk_at dksX0_rests_1 0 rfl rfl)
theorem dX0_rests_25 : decode cX0_rests 25 = .ok (.iconst (-1), 1) := dk_2 (dk_at dksX0_rests_1 3 rfl rfl)
theorem dX0_rests_26 : decode cX0_rests 26 = .ok (.ireturn, 1) := dk_172 (dk_at dksX0_rests_1 4 rfl rfl)
theorem dX0_rests_27 : decode cX0_rests 27 = .ok (.iconst 0, 1) := dk_3 (dk_at dksX0_rests_1 5 rfl rfl)
theorem dX0_rests_28 : decode cX0_rests 28 = .ok (.istore_n 2, 1) := dk_61 (dk_at dksX0_rests_1 6 rfl rfl)
theorem dX0_rests_29 : decode cX0_rests 29 = .ok (.iconst 0, 1) := dk_3 (dk_at dksX0_rests_1 7 rfl rfl)
theorem dX0_rests_30 : decode cX0_rests 30 = .ok (.istore_n 3, 1) := dk_62 (dk_at dksX0_rests_1 8 rfl rfl)
theorem dX0_rests_31 : decode cX0_rests 31 = .ok (.iload_n 3, 1) := dk_29 (dk_at dksX0_rests_1 9 rfl rfl)
theorem dX0_rests_32 : decode cX0_rests 32 = .ok (.aload_n 0, 1) := dk_42 (dk_at dksX0_rests_1 10 rfl rfl)
theorem dX0_rests_33 : decode cX0_rests 33 = .ok (.invokevirtual 153, 3) := dk_182 0 153 (dk_at dksX0_rests_1 11 rfl rfl)
theorem dX0_rests_36 : decode cX0_rests 36 = .ok (.getfield 174, 3) := dk_180 0 174 (dk_at dksX0_rests_1 14 rfl rfl)
theorem dX0_rests_39 : decode cX0_rests 39 = .ok (.if_icmp .gt 43, 3) := dk_163 0 43 (dk_at dksX0_rests_1 17 rfl rfl)
theorem dX0_rests_42 : decode cX0_rests 42 = .ok (.iload_n 2, 1) := dk_28 (dk_at dksX0_rests_1 20 rfl rfl)
theorem dX0_rests_43 : decode cX0_rests 43 = .ok (.iload_n 3, 1) := dk_29 (dk_at dksX0_rests_1 21 rfl rfl)
theorem dX0_rests_44 : decode cX0_rests 44 = .ok (.aload_n 0, 1) := dk_42 (dk_at dksX0_rests_1 22 rfl rfl)
theorem dX0_rests_45 : decode cX0_rests 45 = .ok (.invokevirtual 153, 3) := dk_182 0 153 (dk_at dksX0_rests_2 0 rfl rfl)
theorem dX0_rests_48 : decode cX0_rests 48 = .ok (.getfield 174, 3) := dk_180 0 174 (dk_at dksX0_rests_2 3 rfl rfl)
theorem dX0_rests_51 : decode cX0_rests 51 = .ok (.iconst (-1), 1) := dk_2 (dk_at dksX0_rests_2 6 rfl rfl)
theorem dX0_rests_52 : decode cX0_rests 52 = .ok (.ixor, 1) := dk_130 (dk_at dksX0_rests_2 7 rfl rfl)
theorem dX0_rests_53 : decode cX0_rests 53 = .ok (.iand, 1) := dk_126 (dk_at dksX0_rests_2 8 rfl rfl)
theorem dX0_rests_54 : decode cX0_rests 54 = .ok (.ifCond .ne 19, 3) := dk_154 0 19 (dk_at dksX0_rests_2 9 rfl rfl)
theorem dX0_rests_57 : decode cX0_rests 57 = .ok (.aload_n 0, 1) := dk_42 (dk_at dksX0_rests_2 12 rfl rfl)
theorem dX0_rests_58 : decode cX0_rests 58 = .ok (.invokevirtual 153, 3) := dk_182 0 153 (dk_at dksX0_rests_2 13 rfl rfl)
theorem dX0_rests_61 : decode cX0_rests 61 = .ok (.iload_n 3, 1) := dk_29 (dk_at dksX0_rests_2 16 rfl rfl)
theorem dX0_rests_62 : decode cX0_rests 62 = .ok (.iload_n 1, 1) := dk_27 (dk_at dksX0_rests_2 17 rfl rfl)
theorem dX0_rests_63 : decode cX0_rests 63 = .ok (.invokevirtual 330, 3) := dk_182 1 74 (dk_at dksX0_rests_2 18 rfl rfl)
theorem dX0_rests_66 : decode cX0_rests 66 = .ok (.ifCond .eq 7, 3) := dk_153 0 7 (dk_at dksX0_rests_2 21 rfl rfl)
theorem dX0_rests_69 : decode cX0_rests 69 = .ok (.iconst 1, 1) := dk_4 (dk_at dksX0_rests_3 0 rfl rfl)
theorem dX0_rests_70 : decode cX0_rests 70 = .ok (.goto 4, 3) := dk_167 0 4 (dk_at dksX0_rests_3 1 rfl rfl)
theorem dX0_rests_73 : decode cX0_rests 73 = .ok (.iconst 0, 1) := dk_3 (dk_at dksX0_rests_3 4 rfl rfl)
theorem dX0_rests_74 : decode cX0_rests 74 = .ok (.iadd, 1) := dk_96 (dk_at dksX0_rests_3 5 rfl rfl)
theorem dX0_rests_75 : decode cX0_rests 75 = .ok (.istore_n 2, 1) := dk_61 (dk_at dksX0_rests_3 6 rfl rfl)
theorem dX0_rests_76 : decode cX0_rests 76 = .ok (.iinc 3 1, 3) := dk_132 3 1 (dk_at dksX0_rests_3 7 rfl rfl)
theorem dX0_rests_79 : decode cX0_rests 79 = .ok (.goto (-48), 3) := dk_167 255 208 (dk_at dksX0_rests_3 10 rfl rfl)
theorem dX0_rests_82 : decode cX0_rests 82 = .ok (.iload_n 2, 1) := dk_28 (dk_at dksX0_rests_3 13 rfl rfl)
theorem dX0_rests_83 : decode cX0_rests 83 = .ok (.ireturn, 1) := dk_172 (dk_at dksX0_rests_3 14 rfl rfl)
abbrev cX0_greatest : ByteArray := prog_1_method_57_code
def yX0_greatest : MethodName := ⟨RX0, "greatest", "(I)I"⟩
def dkwX0_greatest_5 : List UInt8 := [28, 172]
abbrev dktX0_greatest_5 : List UInt8 := dkwX0_greatest_5 ++ []
def dkwX0_greatest_4 : List UInt8 := [132, 5, 1, 167, 255, 207, 21, 4, 28, 159, 0, 7, 4, 167, 0, 4, 3, 62, 21, 4, 61, 167, 255, 179]
abbrev dktX0_greatest_4 : List UInt8 := dkwX0_greatest_4 ++ dktX0_greatest_5
def dkwX0_greatest_3 : List UInt8 := [182, 0, 153, 21, 5, 27, 28, 182, 1, 77, 154, 0, 14, 21, 4, 4, 21, 5, 120, 2, 130, 126, 54, 4]
abbrev dktX0_greatest_3 : List UInt8 := dkwX0_greatest_3 ++ dktX0_greatest_4
def dkwX0_greatest_2 : List UInt8 := [54, 5, 21, 5, 42, 182, 0, 153, 180, 0, 164, 162, 0, 43, 28, 21, 5, 184, 0, 177, 153, 0, 28, 42]
abbrev dktX0_greatest_2 : List UInt8 := dkwX0_greatest_2 ++ dktX0_greatest_3
def dkwX0_greatest_1 : List UInt8 := [158, 0, 5, 2, 172, 42, 182, 0, 153, 180, 0, 174, 61, 4, 62, 29, 153, 0, 79, 28, 54, 4, 3]
abbrev dktX0_greatest_1 : List UInt8 := dkwX0_greatest_1 ++ dktX0_greatest_2
def dkwX0_greatest_0 : List UInt8 := [42, 42, 27, 133, 182, 1, 52, 153, 0, 7, 3, 167, 0, 4, 4, 181, 0, 76, 42, 180, 0, 76]
abbrev dktX0_greatest_0 : List UInt8 := dkwX0_greatest_0 ++ dktX0_greatest_1
theorem dksX0_greatest_0 : cX0_greatest.data.toList.drop 0 = dktX0_greatest_0 := by decide +kernel
theorem dksX0_greatest_1 : cX0_greatest.data.toList.drop 22 = dktX0_greatest_1 := dk_seg dksX0_greatest_0 22 rfl rfl
theorem dksX0_greatest_2 : cX0_greatest.data.toList.drop 45 = dktX0_greatest_2 := dk_seg dksX0_greatest_1 23 rfl rfl
theorem dksX0_greatest_3 : cX0_greatest.data.toList.drop 69 = dktX0_greatest_3 := dk_seg dksX0_greatest_2 24 rfl rfl
theorem dksX0_greatest_4 : cX0_greatest.data.toList.drop 93 = dktX0_greatest_4 := dk_seg dksX0_greatest_3 24 rfl rfl
theorem dksX0_greatest_5 : cX0_greatest.data.toList.drop 117 = dktX0_greatest_5 := dk_seg dksX0_greatest_4 24 rfl rfl
theorem dX0_greatest_0 : decode cX0_greatest 0 = .ok (.aload_n 0, 1) := dk_42 (dk_at dksX0_greatest_0 0 rfl rfl)
theorem dX0_greatest_1 : decode cX0_greatest 1 = .ok (.aload_n 0, 1) := dk_42 (dk_at dksX0_greatest_0 1 rfl rfl)
theorem dX0_greatest_2 : decode cX0_greatest 2 = .ok (.iload_n 1, 1) := dk_27 (dk_at dksX0_greatest_0 2 rfl rfl)
theorem dX0_greatest_3 : decode cX0_greatest 3 = .ok (.i2l, 1) := dk_133 (dk_at dksX0_greatest_0 3 rfl rfl)
theorem dX0_greatest_4 : decode cX0_greatest 4 = .ok (.invokevirtual 308, 3) := dk_182 1 52 (dk_at dksX0_greatest_0 4 rfl rfl)
theorem dX0_greatest_7 : decode cX0_greatest 7 = .ok (.ifCond .eq 7, 3) := dk_153 0 7 (dk_at dksX0_greatest_0 7 rfl rfl)
theorem dX0_greatest_10 : decode cX0_greatest 10 = .ok (.iconst 0, 1) := dk_3 (dk_at dksX0_greatest_0 10 rfl rfl)
theorem dX0_greatest_11 : decode cX0_greatest 11 = .ok (.goto 4, 3) := dk_167 0 4 (dk_at dksX0_greatest_0 11 rfl rfl)
theorem dX0_greatest_14 : decode cX0_greatest 14 = .ok (.iconst 1, 1) := dk_4 (dk_at dksX0_greatest_0 14 rfl rfl)
theorem dX0_greatest_15 : decode cX0_greatest 15 = .ok (.putfield 76, 3) := dk_181 0 76 (dk_at dksX0_greatest_0 15 rfl rfl)
theorem dX0_greatest_18 : decode cX0_greatest 18 = .ok (.aload_n 0, 1) := dk_42 (dk_at dksX0_greatest_0 18 rfl rfl)
theorem dX0_greatest_19 : decode cX0_greatest 19 = .ok (.getfield 76, 3) := dk_180 0 76 (dk_at dksX0_greatest_0 19 rfl rfl)
theorem dX0_greatest_22 : decode cX0_greatest 22 = .ok (.ifCond .le 5, 3) := dk_158 0 5 (dk_at dksX0_greatest_1 0 rfl rfl)
theorem dX0_greatest_25 : decode cX0_greatest 25 = .ok (.iconst (-1), 1) := dk_2 (dk_at dksX0_greatest_1 3 rfl rfl)
theorem dX0_greatest_26 : decode cX0_greatest 26 = .ok (.ireturn, 1) := dk_172 (dk_at dksX0_greatest_1 4 rfl rfl)
theorem dX0_greatest_27 : decode cX0_greatest 27 = .ok (.aload_n 0, 1) := dk_42 (dk_at dksX0_greatest_1 5 rfl rfl)
theorem dX0_greatest_28 : decode cX0_greatest 28 = .ok (.invokevirtual 153, 3) := dk_182 0 153 (dk_at dksX0_greatest_1 6 rfl rfl)
theorem dX0_greatest_31 : decode cX0_greatest 31 = .ok (.getfield 174, 3) := dk_180 0 174 (dk_at dksX0_greatest_1 9 rfl rfl)
theorem dX0_greatest_34 : decode cX0_greatest 34 = .ok (.istore_n 2, 1) := dk_61 (dk_at dksX0_greatest_1 12 rfl rfl)
theorem dX0_greatest_35 : decode cX0_greatest 35 = .ok (.iconst 1, 1) := dk_4 (dk_at dksX0_greatest_1 13 rfl rfl)
theorem dX0_greatest_36 : decode cX0_greatest 36 = .ok (.istore_n 3, 1) := dk_62 (dk_at dksX0_greatest_1 14 rfl rfl)
theorem dX0_greatest_37 : decode cX0_greatest 37 = .ok (.iload_n 3, 1) := dk_29 (dk_at dksX0_greatest_1 15 rfl rfl)
theorem dX0_greatest_38 : decode cX0_greatest 38 = .ok (.ifCond .eq 79, 3) := dk_153 0 79 (dk_at dksX0_greatest_1 16 rfl rfl)
theorem dX0_greatest_41 : decode cX0_greatest 41 = .ok (.iload_n 2, 1) := dk_28 (dk_at dksX0_greatest_1 19 rfl rfl)
theorem dX0_greatest_42 : decode cX0_greatest 42 = .ok (.istore 4, 2) := dk_54 4 (dk_at dksX0_greatest_1 20 rfl rfl)
theorem dX0_greatest_44 : decode cX0_greatest 44 = .ok (.iconst 0, 1) := dk_3 (dk_at dksX0_greatest_1 22 rfl rfl)
theorem dX0_greatest_45 : decode cX0_greatest 45 = .ok (.istore 5, 2) := dk_54 5 (dk_at dksX0_greatest_2 0 rfl rfl)
theorem dX0_greatest_47 : decode cX0_greatest 47 = .ok (.iload 5, 2) := dk_21 5 (dk_at dksX0_greatest_2 2 rfl rfl)
theorem dX0_greatest_49 : decode cX0_greatest 49 = .ok (.aload_n 0, 1) := dk_42 (dk_at dksX0_greatest_2 4 rfl rfl)
theorem dX0_greatest_50 : decode cX0_greatest 50 = .ok (.invokevirtual 153, 3) := dk_182 0 153 (dk_at dksX0_greatest_2 5 rfl rfl)
theorem dX0_greatest_53 : decode cX0_greatest 53 = .ok (.getfield 164, 3) := dk_180 0 164 (dk_at dksX0_greatest_2 8 rfl rfl)
theorem dX0_greatest_56 : decode cX0_greatest 56 = .ok (.if_icmp .ge 43, 3) := dk_162 0 43 (dk_at dksX0_greatest_2 11 rfl rfl)
theorem dX0_greatest_59 : decode cX0_greatest 59 = .ok (.iload_n 2, 1) := dk_28 (dk_at dksX0_greatest_2 14 rfl rfl)
theorem dX0_greatest_60 : decode cX0_greatest 60 = .ok (.iload 5, 2) := dk_21 5 (dk_at dksX0_greatest_2 15 rfl rfl)
theorem dX0_greatest_62 : decode cX0_greatest 62 = .ok (.invokestatic 177, 3) := dk_184 0 177 (dk_at dksX0_greatest_2 17 rfl rfl)
theorem dX0_greatest_65 : decode cX0_greatest 65 = .ok (.ifCond .eq 28, 3) := dk_153 0 28 (dk_at dksX0_greatest_2 20 rfl rfl)
theorem dX0_greatest_68 : decode cX0_greatest 68 = .ok (.aload_n 0, 1) := dk_42 (dk_at dksX0_greatest_2 23 rfl rfl)
theorem dX0_greatest_69 : decode cX0_greatest 69 = .ok (.invokevirtual 153, 3) := dk_182 0 153 (dk_at dksX0_greatest_3 0 rfl rfl)
theorem dX0_greatest_72 : decode cX0_greatest 72 = .ok (.iload 5, 2) := dk_21 5 (dk_at dksX0_greatest_3 3 rfl rfl)
theorem dX0_greatest_74 : decode cX0_greatest 74 = .ok (.iload_n 1, 1) := dk_27 (dk_at dksX0_greatest_3 5 rfl rfl)
theorem dX0_greatest_75 : decode cX0_greatest 75 = .ok (.iload_n 2, 1) := dk_28 (dk_at dksX0_greatest_3 6 rfl rfl)
theorem dX0_greatest_76 : decode cX0_greatest 76 = .ok (.invokevirtual 333, 3) := dk_182 1 77 (dk_at dksX0_greatest_3 7 rfl rfl)
theorem dX0_greatest_79 : decode cX0_greatest 79 = .ok (.ifCond .ne 14, 3) := dk_154 0 14 (dk_at dksX0_greatest_3 10 rfl rfl)
theorem dX0_greatest_82 : decode cX0_greatest 82 = .ok (.iload 4, 2) := dk_21 4 (dk_at dksX0_greatest_3 13 rfl rfl)
theorem dX0_greatest_84 : decode cX0_greatest 84 = .ok (.iconst 1, 1) := dk_4 (dk_at dksX0_greatest_3 15 rfl rfl)
theorem dX0_greatest_85 : decode cX0_greatest 85 = .ok (.iload 5, 2) := dk_21 5 (dk_at dksX0_greatest_3 16 rfl rfl)
theorem dX0_greatest_87 : decode cX0_greatest 87 = .ok (.ishl, 1) := dk_120 (dk_at dksX0_greatest_3 18 rfl rfl)
theorem dX0_greatest_88 : decode cX0_greatest 88 = .ok (.iconst (-1), 1) := dk_2 (dk_at dksX0_greatest_3 19 rfl rfl)
theorem dX0_greatest_89 : decode cX0_greatest 89 = .ok (.ixor, 1) := dk_130 (dk_at dksX0_greatest_3 20 rfl rfl)
theorem dX0_greatest_90 : decode cX0_greatest 90 = .ok (.iand, 1) := dk_126 (dk_at dksX0_greatest_3 21 rfl rfl)
theorem dX0_greatest_91 : decode cX0_greatest 91 = .ok (.istore 4, 2) := dk_54 4 (dk_at dksX0_greatest_3 22 rfl rfl)
theorem dX0_greatest_93 : decode cX0_greatest 93 = .ok (.iinc 5 1, 3) := dk_132 5 1 (dk_at dksX0_greatest_4 0 rfl rfl)
theorem dX0_greatest_96 : decode cX0_greatest 96 = .ok (.goto (-49), 3) := dk_167 255 207 (dk_at dksX0_greatest_4 3 rfl rfl)
theorem dX0_greatest_99 : decode cX0_greatest 99 = .ok (.iload 4, 2) := dk_21 4 (dk_at dksX0_greatest_4 6 rfl rfl)
theorem dX0_greatest_101 : decode cX0_greatest 101 = .ok (.iload_n 2, 1) := dk_28 (dk_at dksX0_greatest_4 8 rfl rfl)
theorem dX0_greatest_102 : decode cX0_greatest 102 = .ok (.if_icmp .eq 7, 3) := dk_159 0 7 (dk_at dksX0_greatest_4 9 rfl rfl)
theorem dX0_greatest_105 : decode cX0_greatest 105 = .ok (.iconst 1, 1) := dk_4 (dk_at dksX0_greatest_4 12 rfl rfl)
theorem dX0_greatest_106 : decode cX0_greatest 106 = .ok (.goto 4, 3) := dk_167 0 4 (dk_at dksX0_greatest_4 13 rfl rfl)
theorem dX0_greatest_109 : decode cX0_greatest 109 = .ok (.iconst 0, 1) := dk_3 (dk_at dksX0_greatest_4 16 rfl rfl)
theorem dX0_greatest_110 : decode cX0_greatest 110 = .ok (.istore_n 3, 1) := dk_62 (dk_at dksX0_greatest_4 17 rfl rfl)
theorem dX0_greatest_111 : decode cX0_greatest 111 = .ok (.iload 4, 2) := dk_21 4 (dk_at dksX0_greatest_4 18 rfl rfl)
theorem dX0_greatest_113 : decode cX0_greatest 113 = .ok (.istore_n 2, 1) := dk_61 (dk_at dksX0_greatest_4 20 rfl rfl)
theorem dX0_greatest_114 : decode cX0_greatest 114 = .ok (.goto (-77), 3) := dk_167 255 179 (dk_at dksX0_greatest_4 21 rfl rfl)
theorem dX0_greatest_117 : decode cX0_greatest 117 = .ok (.iload_n 2, 1) := dk_28 (dk_at dksX0_greatest_5 0 rfl rfl)
theorem dX0_greatest_118 : decode cX0_greatest 118 = .ok (.ireturn, 1) := dk_172 (dk_at dksX0_greatest_5 1 rfl rfl)
abbrev cX0_seeds : ByteArray := prog_1_method_59_code
def yX0_seeds : MethodName := ⟨RX0, "seeds", "(I)I"⟩
def dkwX0_seeds_1 : List UInt8 := [158, 0, 7, 2, 167, 0, 11, 42, 27, 182, 1, 81, 184, 1, 33, 172]
abbrev dktX0_seeds_1 : List UInt8 := dkwX0_seeds_1 ++ []
def dkwX0_seeds_0 : List UInt8 := [42, 42, 27, 133, 182, 1, 52, 153, 0, 7, 3, 167, 0, 4, 4, 181, 0, 76, 42, 180, 0, 76]
abbrev dktX0_seeds_0 : List UInt8 := dkwX0_seeds_0 ++ dktX0_seeds_1
theorem dksX0_seeds_0 : cX0_seeds.data.toList.drop 0 = dktX0_seeds_0 := by decide +kernel
theorem dksX0_seeds_1 : cX0_seeds.data.toList.drop 22 = dktX0_seeds_1 := dk_seg dksX0_seeds_0 22 rfl rfl
theorem dX0_seeds_0 : decode cX0_seeds 0 = .ok (.aload_n 0, 1) := dk_42 (dk_at dksX0_seeds_0 0 rfl rfl)
theorem dX0_seeds_1 : decode cX0_seeds 1 = .ok (.aload_n 0, 1) := dk_42 (dk_at dksX0_seeds_0 1 rfl rfl)
theorem dX0_seeds_2 : decode cX0_seeds 2 = .ok (.iload_n 1, 1) := dk_27 (dk_at dksX0_seeds_0 2 rfl rfl)
theorem dX0_seeds_3 : decode cX0_seeds 3 = .ok (.i2l, 1) := dk_133 (dk_at dksX0_seeds_0 3 rfl rfl)
theorem dX0_seeds_4 : decode cX0_seeds 4 = .ok (.invokevirtual 308, 3) := dk_182 1 52 (dk_at dksX0_seeds_0 4 rfl rfl)
theorem dX0_seeds_7 : decode cX0_seeds 7 = .ok (.ifCond .eq 7, 3) := dk_153 0 7 (dk_at dksX0_seeds_0 7 rfl rfl)
theorem dX0_seeds_10 : decode cX0_seeds 10 = .ok (.iconst 0, 1) := dk_3 (dk_at dksX0_seeds_0 10 rfl rfl)
theorem dX0_seeds_11 : decode cX0_seeds 11 = .ok (.goto 4, 3) := dk_167 0 4 (dk_at dksX0_seeds_0 11 rfl rfl)
theorem dX0_seeds_14 : decode cX0_seeds 14 = .ok (.iconst 1, 1) := dk_4 (dk_at dksX0_seeds_0 14 rfl rfl)
theorem dX0_seeds_15 : decode cX0_seeds 15 = .ok (.putfield 76, 3) := dk_181 0 76 (dk_at dksX0_seeds_0 15 rfl rfl)
theorem dX0_seeds_18 : decode cX0_seeds 18 = .ok (.aload_n 0, 1) := dk_42 (dk_at dksX0_seeds_0 18 rfl rfl)
theorem dX0_seeds_19 : decode cX0_seeds 19 = .ok (.getfield 76, 3) := dk_180 0 76 (dk_at dksX0_seeds_0 19 rfl rfl)
theorem dX0_seeds_22 : decode cX0_seeds 22 = .ok (.ifCond .le 7, 3) := dk_158 0 7 (dk_at dksX0_seeds_1 0 rfl rfl)
theorem dX0_seeds_25 : decode cX0_seeds 25 = .ok (.iconst (-1), 1) := dk_2 (dk_at dksX0_seeds_1 3 rfl rfl)
theorem dX0_seeds_26 : decode cX0_seeds 26 = .ok (.goto 11, 3) := dk_167 0 11 (dk_at dksX0_seeds_1 4 rfl rfl)
theorem dX0_seeds_29 : decode cX0_seeds 29 = .ok (.aload_n 0, 1) := dk_42 (dk_at dksX0_seeds_1 7 rfl rfl)
theorem dX0_seeds_30 : decode cX0_seeds 30 = .ok (.iload_n 1, 1) := dk_27 (dk_at dksX0_seeds_1 8 rfl rfl)
theorem dX0_seeds_31 : decode cX0_seeds 31 = .ok (.invokevirtual 337, 3) := dk_182 1 81 (dk_at dksX0_seeds_1 9 rfl rfl)
theorem dX0_seeds_34 : decode cX0_seeds 34 = .ok (.invokestatic 289, 3) := dk_184 1 33 (dk_at dksX0_seeds_1 12 rfl rfl)
theorem dX0_seeds_37 : decode cX0_seeds 37 = .ok (.ireturn, 1) := dk_172 (dk_at dksX0_seeds_1 15 rfl rfl)
abbrev cX0_seedsOf : ByteArray := prog_1_method_58_code
def yX0_seedsOf : MethodName := ⟨RX0, "seedsOf", "(I)I"⟩
def dkwX0_seedsOf_4 : List UInt8 := [29, 61, 132, 3, 1, 167, 255, 168, 28, 172]
abbrev dktX0_seedsOf_4 : List UInt8 := dkwX0_seedsOf_4 ++ []
def dkwX0_seedsOf_3 : List UInt8 := [21, 4, 153, 0, 24, 42, 182, 0, 153, 27, 29, 182, 1, 65, 42, 182, 0, 153, 180, 0, 174, 160, 0, 5]
abbrev dktX0_seedsOf_3 : List UInt8 := dkwX0_seedsOf_3 ++ dktX0_seedsOf_4
def dkwX0_seedsOf_2 : List UInt8 := [162, 0, 7, 4, 167, 0, 4, 3, 54, 4, 29, 42, 182, 0, 153, 180, 0, 174, 2, 130, 126, 154, 0, 29]
abbrev dktX0_seedsOf_2 : List UInt8 := dkwX0_seedsOf_2 ++ dktX0_seedsOf_3
def dkwX0_seedsOf_1 : List UInt8 := [184, 1, 33, 28, 184, 1, 33, 161, 0, 19, 29, 184, 1, 33, 28, 184, 1, 33, 160, 0, 12, 29, 28]
abbrev dktX0_seedsOf_1 : List UInt8 := dkwX0_seedsOf_1 ++ dktX0_seedsOf_2
def dkwX0_seedsOf_0 : List UInt8 := [42, 182, 0, 153, 180, 0, 174, 61, 3, 62, 29, 42, 182, 0, 153, 180, 0, 174, 163, 0, 83, 29]
abbrev dktX0_seedsOf_0 : List UInt8 := dkwX0_seedsOf_0 ++ dktX0_seedsOf_1
theorem dksX0_seedsOf_0 : cX0_seedsOf.data.toList.drop 0 = dktX0_seedsOf_0 := by decide +kernel
theorem dksX0_seedsOf_1 : cX0_seedsOf.data.toList.drop 22 = dktX0_seedsOf_1 := dk_seg dksX0_seedsOf_0 22 rfl rfl
theorem dksX0_seedsOf_2 : cX0_seedsOf.data.toList.drop 45 = dktX0_seedsOf_2 := dk_seg dksX0_seedsOf_1 23 rfl rfl
theorem dksX0_seedsOf_3 : cX0_seedsOf.data.toList.drop 69 = dktX0_seedsOf_3 := dk_seg dksX0_seedsOf_2 24 rfl rfl
theorem dksX0_seedsOf_4 : cX0_seedsOf.data.toList.drop 93 = dktX0_seedsOf_4 := dk_seg dksX0_seedsOf_3 24 rfl rfl
theorem dX0_seedsOf_0 : decode cX0_seedsOf 0 = .ok (.aload_n 0, 1) := dk_42 (dk_at dksX0_seedsOf_0 0 rfl rfl)
theorem dX0_seedsOf_1 : decode cX0_seedsOf 1 = .ok (.invokevirtual 153, 3) := dk_182 0 153 (dk_at dksX0_seedsOf_0 1 rfl rfl)
theorem dX0_seedsOf_4 : decode cX0_seedsOf 4 = .ok (.getfield 174, 3) := dk_180 0 174 (dk_at dksX0_seedsOf_0 4 rfl rfl)
theorem dX0_seedsOf_7 : decode cX0_seedsOf 7 = .ok (.istore_n 2, 1) := dk_61 (dk_at dksX0_seedsOf_0 7 rfl rfl)
theorem dX0_seedsOf_8 : decode cX0_seedsOf 8 = .ok (.iconst 0, 1) := dk_3 (dk_at dksX0_seedsOf_0 8 rfl rfl)
theorem dX0_seedsOf_9 : decode cX0_seedsOf 9 = .ok (.istore_n 3, 1) := dk_62 (dk_at dksX0_seedsOf_0 9 rfl rfl)
theorem dX0_seedsOf_10 : decode cX0_seedsOf 10 = .ok (.iload_n 3, 1) := dk_29 (dk_at dksX0_seedsOf_0 10 rfl rfl)
theorem dX0_seedsOf_11 : decode cX0_seedsOf 11 = .ok (.aload_n 0, 1) := dk_42 (dk_at dksX0_seedsOf_0 11 rfl rfl)
theorem dX0_seedsOf_12 : decode cX0_seedsOf 12 = .ok (.invokevirtual 153, 3) := dk_182 0 153 (dk_at dksX0_seedsOf_0 12 rfl rfl)
theorem dX0_seedsOf_15 : decode cX0_seedsOf 15 = .ok (.getfield 174, 3) := dk_180 0 174 (dk_at dksX0_seedsOf_0 15 rfl rfl)
theorem dX0_seedsOf_18 : decode cX0_seedsOf 18 = .ok (.if_icmp .gt 83, 3) := dk_163 0 83 (dk_at dksX0_seedsOf_0 18 rfl rfl)
theorem dX0_seedsOf_21 : decode cX0_seedsOf 21 = .ok (.iload_n 3, 1) := dk_29 (dk_at dksX0_seedsOf_0 21 rfl rfl)
theorem dX0_seedsOf_22 : decode cX0_seedsOf 22 = .ok (.invokestatic 289, 3) := dk_184 1 33 (dk_at dksX0_seedsOf_1 0 rfl rfl)
theorem dX0_seedsOf_25 : decode cX0_seedsOf 25 = .ok (.iload_n 2, 1) := dk_28 (dk_at dksX0_seedsOf_1 3 rfl rfl)
theorem dX0_seedsOf_26 : decode cX0_seedsOf 26 = .ok (.invokestatic 289, 3) := dk_184 1 33 (dk_at dksX0_seedsOf_1 4 rfl rfl)
theorem dX0_seedsOf_29 : decode cX0_seedsOf 29 = .ok (.if_icmp .lt 19, 3) := dk_161 0 19 (dk_at dksX0_seedsOf_1 7 rfl rfl)
theorem dX0_seedsOf_32 : decode cX0_seedsOf 32 = .ok (.iload_n 3, 1) := dk_29 (dk_at dksX0_seedsOf_1 10 rfl rfl)
theorem dX0_seedsOf_33 : decode cX0_seedsOf 33 = .ok (.invokestatic 289, 3) := dk_184 1 33 (dk_at dksX0_seedsOf_1 11 rfl rfl)
theorem dX0_seedsOf_36 : decode cX0_seedsOf 36 = .ok (.iload_n 2, 1) := dk_28 (dk_at dksX0_seedsOf_1 14 rfl rfl)
theorem dX0_seedsOf_37 : decode cX0_seedsOf 37 = .ok (.invokestatic 289, 3) := dk_184 1 33 (dk_at dksX0_seedsOf_1 15 rfl rfl)
theorem dX0_seedsOf_40 : decode cX0_seedsOf 40 = .ok (.if_icmp .ne 12, 3) := dk_160 0 12 (dk_at dksX0_seedsOf_1 18 rfl rfl)
theorem dX0_seedsOf_43 : decode cX0_seedsOf 43 = .ok (.iload_n 3, 1) := dk_29 (dk_at dksX0_seedsOf_1 21 rfl rfl)
theorem dX0_seedsOf_44 : decode cX0_seedsOf 44 = .ok (.iload_n 2, 1) := dk_28 (dk_at dksX0_seedsOf_1 22 rfl rfl)
theorem dX0_seedsOf_45 : decode cX0_seedsOf 45 = .ok (.if_icmp .ge 7, 3) := dk_162 0 7 (dk_at dksX0_seedsOf_2 0 rfl rfl)
theorem dX0_seedsOf_48 : decode cX0_seedsOf 48 = .ok (.iconst 1, 1) := dk_4 (dk_at dksX0_seedsOf_2 3 rfl rfl)
theorem dX0_seedsOf_49 : decode cX0_seedsOf 49 = .ok (.goto 4, 3) := dk_167 0 4 (dk_at dksX0_seedsOf_2 4 rfl rfl)
theorem dX0_seedsOf_52 : decode cX0_seedsOf 52 = .ok (.iconst 0, 1) := dk_3 (dk_at dksX0_seedsOf_2 7 rfl rfl)
theorem dX0_seedsOf_53 : decode cX0_seedsOf 53 = .ok (.istore 4, 2) := dk_54 4 (dk_at dksX0_seedsOf_2 8 rfl rfl)
theorem dX0_seedsOf_55 : decode cX0_seedsOf 55 = .ok (.iload_n 3, 1) := dk_29 (dk_at dksX0_seedsOf_2 10 rfl rfl)
theorem dX0_seedsOf_56 : decode cX0_seedsOf 56 = .ok (.aload_n 0, 1) := dk_42 (dk_at dksX0_seedsOf_2 11 rfl rfl)
theorem dX0_seedsOf_57 : decode cX0_seedsOf 57 = .ok (.invokevirtual 153, 3) := dk_182 0 153 (dk_at dksX0_seedsOf_2 12 rfl rfl)
theorem dX0_seedsOf_60 : decode cX0_seedsOf 60 = .ok (.getfield 174, 3) := dk_180 0 174 (dk_at dksX0_seedsOf_2 15 rfl rfl)
theorem dX0_seedsOf_63 : decode cX0_seedsOf 63 = .ok (.iconst (-1), 1) := dk_2 (dk_at dksX0_seedsOf_2 18 rfl rfl)
theorem dX0_seedsOf_64 : decode cX0_seedsOf 64 = .ok (.ixor, 1) := dk_130 (dk_at dksX0_seedsOf_2 19 rfl rfl)
theorem dX0_seedsOf_65 : decode cX0_seedsOf 65 = .ok (.iand, 1) := dk_126 (dk_at dksX0_seedsOf_2 20 rfl rfl)
theorem dX0_seedsOf_66 : decode cX0_seedsOf 66 = .ok (.ifCond .ne 29, 3) := dk_154 0 29 (dk_at dksX0_seedsOf_2 21 rfl rfl)
theorem dX0_seedsOf_69 : decode cX0_seedsOf 69 = .ok (.iload 4, 2) := dk_21 4 (dk_at dksX0_seedsOf_3 0 rfl rfl)
theorem dX0_seedsOf_71 : decode cX0_seedsOf 71 = .ok (.ifCond .eq 24, 3) := dk_153 0 24 (dk_at dksX0_seedsOf_3 2 rfl rfl)
theorem dX0_seedsOf_74 : decode cX0_seedsOf 74 = .ok (.aload_n 0, 1) := dk_42 (dk_at dksX0_seedsOf_3 5 rfl rfl)
theorem dX0_seedsOf_75 : decode cX0_seedsOf 75 = .ok (.invokevirtual 153, 3) := dk_182 0 153 (dk_at dksX0_seedsOf_3 6 rfl rfl)
theorem dX0_seedsOf_78 : decode cX0_seedsOf 78 = .ok (.iload_n 1, 1) := dk_27 (dk_at dksX0_seedsOf_3 9 rfl rfl)
theorem dX0_seedsOf_79 : decode cX0_seedsOf 79 = .ok (.iload_n 3, 1) := dk_29 (dk_at dksX0_seedsOf_3 10 rfl rfl)
theorem dX0_seedsOf_80 : decode cX0_seedsOf 80 = .ok (.invokevirtual 321, 3) := dk_182 1 65 (dk_at dksX0_seedsOf_3 11 rfl rfl)
theorem dX0_seedsOf_83 : decode cX0_seedsOf 83 = .ok (.aload_n 0, 1) := dk_42 (dk_at dksX0_seedsOf_3 14 rfl rfl)
theorem dX0_seedsOf_84 : decode cX0_seedsOf 84 = .ok (.invokevirtual 153, 3) := dk_182 0 153 (dk_at dksX0_seedsOf_3 15 rfl rfl)
theorem dX0_seedsOf_87 : decode cX0_seedsOf 87 = .ok (.getfield 174, 3) := dk_180 0 174 (dk_at dksX0_seedsOf_3 18 rfl rfl)
theorem dX0_seedsOf_90 : decode cX0_seedsOf 90 = .ok (.if_icmp .ne 5, 3) := dk_160 0 5 (dk_at dksX0_seedsOf_3 21 rfl rfl)
theorem dX0_seedsOf_93 : decode cX0_seedsOf 93 = .ok (.iload_n 3, 1) := dk_29 (dk_at dksX0_seedsOf_4 0 rfl rfl)
theorem dX0_seedsOf_94 : decode cX0_seedsOf 94 = .ok (.istore_n 2, 1) := dk_61 (dk_at dksX0_seedsOf_4 1 rfl rfl)
theorem dX0_seedsOf_95 : decode cX0_seedsOf 95 = .ok (.iinc 3 1, 3) := dk_132 3 1 (dk_at dksX0_seedsOf_4 2 rfl rfl)
theorem dX0_seedsOf_98 : decode cX0_seedsOf 98 = .ok (.goto (-88), 3) := dk_167 255 168 (dk_at dksX0_seedsOf_4 5 rfl rfl)
theorem dX0_seedsOf_101 : decode cX0_seedsOf 101 = .ok (.iload_n 2, 1) := dk_28 (dk_at dksX0_seedsOf_4 8 rfl rfl)
theorem dX0_seedsOf_102 : decode cX0_seedsOf 102 = .ok (.ireturn, 1) := dk_172 (dk_at dksX0_seedsOf_4 9 rfl rfl)
abbrev cX0_seedSet : ByteArray := prog_1_method_60_code
def yX0_seedSet : MethodName := ⟨RX0, "seedSet", "(I)I"⟩
def dkwX0_seedSet_1 : List UInt8 := [158, 0, 7, 2, 167, 0, 8, 42, 27, 182, 1, 81, 172]
abbrev dktX0_seedSet_1 : List UInt8 := dkwX0_seedSet_1 ++ []
def dkwX0_seedSet_0 : List UInt8 := [42, 42, 27, 133, 182, 1, 52, 153, 0, 7, 3, 167, 0, 4, 4, 181, 0, 76, 42, 180, 0, 76]
abbrev dktX0_seedSet_0 : List UInt8 := dkwX0_seedSet_0 ++ dktX0_seedSet_1
theorem dksX0_seedSet_0 : cX0_seedSet.data.toList.drop 0 = dktX0_seedSet_0 := by decide +kernel
theorem dksX0_seedSet_1 : cX0_seedSet.data.toList.drop 22 = dktX0_seedSet_1 := dk_seg dksX0_seedSet_0 22 rfl rfl
theorem dX0_seedSet_0 : decode cX0_seedSet 0 = .ok (.aload_n 0, 1) := dk_42 (dk_at dksX0_seedSet_0 0 rfl rfl)
theorem dX0_seedSet_1 : decode cX0_seedSet 1 = .ok (.aload_n 0, 1) := dk_42 (dk_at dksX0_seedSet_0 1 rfl rfl)
theorem dX0_seedSet_2 : decode cX0_seedSet 2 = .ok (.iload_n 1, 1) := dk_27 (dk_at dksX0_seedSet_0 2 rfl rfl)
theorem dX0_seedSet_3 : decode cX0_seedSet 3 = .ok (.i2l, 1) := dk_133 (dk_at dksX0_seedSet_0 3 rfl rfl)
theorem dX0_seedSet_4 : decode cX0_seedSet 4 = .ok (.invokevirtual 308, 3) := dk_182 1 52 (dk_at dksX0_seedSet_0 4 rfl rfl)
theorem dX0_seedSet_7 : decode cX0_seedSet 7 = .ok (.ifCond .eq 7, 3) := dk_153 0 7 (dk_at dksX0_seedSet_0 7 rfl rfl)
theorem dX0_seedSet_10 : decode cX0_seedSet 10 = .ok (.iconst 0, 1) := dk_3 (dk_at dksX0_seedSet_0 10 rfl rfl)
theorem dX0_seedSet_11 : decode cX0_seedSet 11 = .ok (.goto 4, 3) := dk_167 0 4 (dk_at dksX0_seedSet_0 11 rfl rfl)
theorem dX0_seedSet_14 : decode cX0_seedSet 14 = .ok (.iconst 1, 1) := dk_4 (dk_at dksX0_seedSet_0 14 rfl rfl)
theorem dX0_seedSet_15 : decode cX0_seedSet 15 = .ok (.putfield 76, 3) := dk_181 0 76 (dk_at dksX0_seedSet_0 15 rfl rfl)
theorem dX0_seedSet_18 : decode cX0_seedSet 18 = .ok (.aload_n 0, 1) := dk_42 (dk_at dksX0_seedSet_0 18 rfl rfl)
theorem dX0_seedSet_19 : decode cX0_seedSet 19 = .ok (.getfield 76, 3) := dk_180 0 76 (dk_at dksX0_seedSet_0 19 rfl rfl)
theorem dX0_seedSet_22 : decode cX0_seedSet 22 = .ok (.ifCond .le 7, 3) := dk_158 0 7 (dk_at dksX0_seedSet_1 0 rfl rfl)
theorem dX0_seedSet_25 : decode cX0_seedSet 25 = .ok (.iconst (-1), 1) := dk_2 (dk_at dksX0_seedSet_1 3 rfl rfl)
theorem dX0_seedSet_26 : decode cX0_seedSet 26 = .ok (.goto 8, 3) := dk_167 0 8 (dk_at dksX0_seedSet_1 4 rfl rfl)
theorem dX0_seedSet_29 : decode cX0_seedSet 29 = .ok (.aload_n 0, 1) := dk_42 (dk_at dksX0_seedSet_1 7 rfl rfl)
theorem dX0_seedSet_30 : decode cX0_seedSet 30 = .ok (.iload_n 1, 1) := dk_27 (dk_at dksX0_seedSet_1 8 rfl rfl)
theorem dX0_seedSet_31 : decode cX0_seedSet 31 = .ok (.invokevirtual 337, 3) := dk_182 1 81 (dk_at dksX0_seedSet_1 9 rfl rfl)
theorem dX0_seedSet_34 : decode cX0_seedSet 34 = .ok (.ireturn, 1) := dk_172 (dk_at dksX0_seedSet_1 12 rfl rfl)
abbrev cX0_weight : ByteArray := prog_1_method_62_code
def yX0_weight : MethodName := ⟨RX0, "weight", "(II)I"⟩
def dkwX0_weight_2 : List UInt8 := [167, 0, 9, 42, 27, 28, 182, 1, 84, 172]
abbrev dktX0_weight_2 : List UInt8 := dkwX0_weight_2 ++ []
def dkwX0_weight_1 : List UInt8 := [182, 1, 21, 153, 0, 7, 3, 167, 0, 5, 16, 7, 181, 0, 76, 42, 180, 0, 76, 158, 0, 7, 2]
abbrev dktX0_weight_1 : List UInt8 := dkwX0_weight_1 ++ dktX0_weight_2
def dkwX0_weight_0 : List UInt8 := [42, 42, 27, 182, 1, 9, 153, 0, 12, 42, 28, 133, 182, 1, 52, 154, 0, 7, 4, 167, 0, 17, 42, 27]
abbrev dktX0_weight_0 : List UInt8 := dkwX0_weight_0 ++ dktX0_weight_1
theorem dksX0_weight_0 : cX0_weight.data.toList.drop 0 = dktX0_weight_0 := by decide +kernel
theorem dksX0_weight_1 : cX0_weight.data.toList.drop 24 = dktX0_weight_1 := dk_seg dksX0_weight_0 24 rfl rfl
theorem dksX0_weight_2 : cX0_weight.data.toList.drop 47 = dktX0_weight_2 := dk_seg dksX0_weight_1 23 rfl rfl
theorem dX0_weight_0 : decode cX0_weight 0 = .ok (.aload_n 0, 1) := dk_42 (dk_at dksX0_weight_0 0 rfl rfl)
theorem dX0_weight_1 : decode cX0_weight 1 = .ok (.aload_n 0, 1) := dk_42 (dk_at dksX0_weight_0 1 rfl rfl)
theorem dX0_weight_2 : decode cX0_weight 2 = .ok (.iload_n 1, 1) := dk_27 (dk_at dksX0_weight_0 2 rfl rfl)
theorem dX0_weight_3 : decode cX0_weight 3 = .ok (.invokevirtual 265, 3) := dk_182 1 9 (dk_at dksX0_weight_0 3 rfl rfl)
theorem dX0_weight_6 : decode cX0_weight 6 = .ok (.ifCond .eq 12, 3) := dk_153 0 12 (dk_at dksX0_weight_0 6 rfl rfl)
theorem dX0_weight_9 : decode cX0_weight 9 = .ok (.aload_n 0, 1) := dk_42 (dk_at dksX0_weight_0 9 rfl rfl)
theorem dX0_weight_10 : decode cX0_weight 10 = .ok (.iload_n 2, 1) := dk_28 (dk_at dksX0_weight_0 10 rfl rfl)
theorem dX0_weight_11 : decode cX0_weight 11 = .ok (.i2l, 1) := dk_133 (dk_at dksX0_weight_0 11 rfl rfl)
theorem dX0_weight_12 : decode cX0_weight 12 = .ok (.invokevirtual 308, 3) := dk_182 1 52 (dk_at dksX0_weight_0 12 rfl rfl)
theorem dX0_weight_15 : decode cX0_weight 15 = .ok (.ifCond .ne 7, 3) := dk_154 0 7 (dk_at dksX0_weight_0 15 rfl rfl)
theorem dX0_weight_18 : decode cX0_weight 18 = .ok (.iconst 1, 1) := dk_4 (dk_at dksX0_weight_0 18 rfl rfl)
theorem dX0_weight_19 : decode cX0_weight 19 = .ok (.goto 17, 3) := dk_167 0 17 (dk_at dksX0_weight_0 19 rfl rfl)
theorem dX0_weight_22 : decode cX0_weight 22 = .ok (.aload_n 0, 1) := dk_42 (dk_at dksX0_weight_0 22 rfl rfl)
theorem dX0_weight_23 : decode cX0_weight 23 = .ok (.iload_n 1, 1) := dk_27 (dk_at dksX0_weight_0 23 rfl rfl)
theorem dX0_weight_24 : decode cX0_weight 24 = .ok (.invokevirtual 277, 3) := dk_182 1 21 (dk_at dksX0_weight_1 0 rfl rfl)
theorem dX0_weight_27 : decode cX0_weight 27 = .ok (.ifCond .eq 7, 3) := dk_153 0 7 (dk_at dksX0_weight_1 3 rfl rfl)
theorem dX0_weight_30 : decode cX0_weight 30 = .ok (.iconst 0, 1) := dk_3 (dk_at dksX0_weight_1 6 rfl rfl)
theorem dX0_weight_31 : decode cX0_weight 31 = .ok (.goto 5, 3) := dk_167 0 5 (dk_at dksX0_weight_1 7 rfl rfl)
theorem dX0_weight_34 : decode cX0_weight 34 = .ok (.bipush 7, 2) := dk_16 7 (dk_at dksX0_weight_1 10 rfl rfl)
theorem dX0_weight_36 : decode cX0_weight 36 = .ok (.putfield 76, 3) := dk_181 0 76 (dk_at dksX0_weight_1 12 rfl rfl)
theorem dX0_weight_39 : decode cX0_weight 39 = .ok (.aload_n 0, 1) := dk_42 (dk_at dksX0_weight_1 15 rfl rfl)
theorem dX0_weight_40 : decode cX0_weight 40 = .ok (.getfield 76, 3) := dk_180 0 76 (dk_at dksX0_weight_1 16 rfl rfl)
theorem dX0_weight_43 : decode cX0_weight 43 = .ok (.ifCond .le 7, 3) := dk_158 0 7 (dk_at dksX0_weight_1 19 rfl rfl)
theorem dX0_weight_46 : decode cX0_weight 46 = .ok (.iconst (-1), 1) := dk_2 (dk_at dksX0_weight_1 22 rfl rfl)
theorem dX0_weight_47 : decode cX0_weight 47 = .ok (.goto 9, 3) := dk_167 0 9 (dk_at dksX0_weight_2 0 rfl rfl)
theorem dX0_weight_50 : decode cX0_weight 50 = .ok (.aload_n 0, 1) := dk_42 (dk_at dksX0_weight_2 3 rfl rfl)
theorem dX0_weight_51 : decode cX0_weight 51 = .ok (.iload_n 1, 1) := dk_27 (dk_at dksX0_weight_2 4 rfl rfl)
theorem dX0_weight_52 : decode cX0_weight 52 = .ok (.iload_n 2, 1) := dk_28 (dk_at dksX0_weight_2 5 rfl rfl)
theorem dX0_weight_53 : decode cX0_weight 53 = .ok (.invokevirtual 340, 3) := dk_182 1 84 (dk_at dksX0_weight_2 6 rfl rfl)
theorem dX0_weight_56 : decode cX0_weight 56 = .ok (.ireturn, 1) := dk_172 (dk_at dksX0_weight_2 9 rfl rfl)
abbrev cX0_weightOf : ByteArray := prog_1_method_61_code
def yX0_weightOf : MethodName := ⟨RX0, "weightOf", "(II)I"⟩
def dkwX0_weightOf_3 : List UInt8 := [100, 172]
abbrev dktX0_weightOf_3 : List UInt8 := dkwX0_weightOf_3 ++ []
def dkwX0_weightOf_2 : List UInt8 := [182, 0, 153, 28, 182, 1, 62, 184, 1, 33, 54, 5, 42, 182, 0, 153, 21, 4, 181, 0, 174, 29, 21, 5]
abbrev dktX0_weightOf_2 : List UInt8 := dkwX0_weightOf_2 ++ dktX0_weightOf_3
def dkwX0_weightOf_1 : List UInt8 := [180, 0, 174, 54, 4, 42, 182, 0, 153, 89, 180, 0, 174, 4, 27, 120, 2, 130, 126, 181, 0, 174, 42]
abbrev dktX0_weightOf_1 : List UInt8 := dkwX0_weightOf_1 ++ dktX0_weightOf_2
def dkwX0_weightOf_0 : List UInt8 := [42, 182, 0, 153, 28, 182, 1, 62, 4, 27, 120, 2, 130, 126, 184, 1, 33, 62, 42, 182, 0, 153]
abbrev dktX0_weightOf_0 : List UInt8 := dkwX0_weightOf_0 ++ dktX0_weightOf_1
theorem dksX0_weightOf_0 : cX0_weightOf.data.toList.drop 0 = dktX0_weightOf_0 := by decide +kernel
theorem dksX0_weightOf_1 : cX0_weightOf.data.toList.drop 22 = dktX0_weightOf_1 := dk_seg dksX0_weightOf_0 22 rfl rfl
theorem dksX0_weightOf_2 : cX0_weightOf.data.toList.drop 45 = dktX0_weightOf_2 := dk_seg dksX0_weightOf_1 23 rfl rfl
theorem dksX0_weightOf_3 : cX0_weightOf.data.toList.drop 69 = dktX0_weightOf_3 := dk_seg dksX0_weightOf_2 24 rfl rfl
theorem dX0_weightOf_0 : decode cX0_weightOf 0 = .ok (.aload_n 0, 1) := dk_42 (dk_at dksX0_weightOf_0 0 rfl rfl)
theorem dX0_weightOf_1 : decode cX0_weightOf 1 = .ok (.invokevirtual 153, 3) := dk_182 0 153 (dk_at dksX0_weightOf_0 1 rfl rfl)
theorem dX0_weightOf_4 : decode cX0_weightOf 4 = .ok (.iload_n 2, 1) := dk_28 (dk_at dksX0_weightOf_0 4 rfl rfl)
theorem dX0_weightOf_5 : decode cX0_weightOf 5 = .ok (.invokevirtual 318, 3) := dk_182 1 62 (dk_at dksX0_weightOf_0 5 rfl rfl)
theorem dX0_weightOf_8 : decode cX0_weightOf 8 = .ok (.iconst 1, 1) := dk_4 (dk_at dksX0_weightOf_0 8 rfl rfl)
theorem dX0_weightOf_9 : decode cX0_weightOf 9 = .ok (.iload_n 1, 1) := dk_27 (dk_at dksX0_weightOf_0 9 rfl rfl)
theorem dX0_weightOf_10 : decode cX0_weightOf 10 = .ok (.ishl, 1) := dk_120 (dk_at dksX0_weightOf_0 10 rfl rfl)
theorem dX0_weightOf_11 : decode cX0_weightOf 11 = .ok (.iconst (-1), 1) := dk_2 (dk_at dksX0_weightOf_0 11 rfl rfl)
theorem dX0_weightOf_12 : decode cX0_weightOf 12 = .ok (.ixor, 1) := dk_130 (dk_at dksX0_weightOf_0 12 rfl rfl)
theorem dX0_weightOf_13 : decode cX0_weightOf 13 = .ok (.iand, 1) := dk_126 (dk_at dksX0_weightOf_0 13 rfl rfl)
theorem dX0_weightOf_14 : decode cX0_weightOf 14 = .ok (.invokestatic 289, 3) := dk_184 1 33 (dk_at dksX0_weightOf_0 14 rfl rfl)
theorem dX0_weightOf_17 : decode cX0_weightOf 17 = .ok (.istore_n 3, 1) := dk_62 (dk_at dksX0_weightOf_0 17 rfl rfl)
theorem dX0_weightOf_18 : decode cX0_weightOf 18 = .ok (.aload_n 0, 1) := dk_42 (dk_at dksX0_weightOf_0 18 rfl rfl)
theorem dX0_weightOf_19 : decode cX0_weightOf 19 = .ok (.invokevirtual 153, 3) := dk_182 0 153 (dk_at dksX0_weightOf_0 19 rfl rfl)
theorem dX0_weightOf_22 : decode cX0_weightOf 22 = .ok (.getfield 174, 3) := dk_180 0 174 (dk_at dksX0_weightOf_1 0 rfl rfl)
theorem dX0_weightOf_25 : decode cX0_weightOf 25 = .ok (.istore 4, 2) := dk_54 4 (dk_at dksX0_weightOf_1 3 rfl rfl)
theorem dX0_weightOf_27 : decode cX0_weightOf 27 = .ok (.aload_n 0, 1) := dk_42 (dk_at dksX0_weightOf_1 5 rfl rfl)
theorem dX0_weightOf_28 : decode cX0_weightOf 28 = .ok (.invokevirtual 153, 3) := dk_182 0 153 (dk_at dksX0_weightOf_1 6 rfl rfl)
theorem dX0_weightOf_31 : decode cX0_weightOf 31 = .ok (.dup, 1) := dk_89 (dk_at dksX0_weightOf_1 9 rfl rfl)
theorem dX0_weightOf_32 : decode cX0_weightOf 32 = .ok (.getfield 174, 3) := dk_180 0 174 (dk_at dksX0_weightOf_1 10 rfl rfl)
theorem dX0_weightOf_35 : decode cX0_weightOf 35 = .ok (.iconst 1, 1) := dk_4 (dk_at dksX0_weightOf_1 13 rfl rfl)
theorem dX0_weightOf_36 : decode cX0_weightOf 36 = .ok (.iload_n 1, 1) := dk_27 (dk_at dksX0_weightOf_1 14 rfl rfl)
theorem dX0_weightOf_37 : decode cX0_weightOf 37 = .ok (.ishl, 1) := dk_120 (dk_at dksX0_weightOf_1 15 rfl rfl)
theorem dX0_weightOf_38 : decode cX0_weightOf 38 = .ok (.iconst (-1), 1) := dk_2 (dk_at dksX0_weightOf_1 16 rfl rfl)
theorem dX0_weightOf_39 : decode cX0_weightOf 39 = .ok (.ixor, 1) := dk_130 (dk_at dksX0_weightOf_1 17 rfl rfl)
theorem dX0_weightOf_40 : decode cX0_weightOf 40 = .ok (.iand, 1) := dk_126 (dk_at dksX0_weightOf_1 18 rfl rfl)
theorem dX0_weightOf_41 : decode cX0_weightOf 41 = .ok (.putfield 174, 3) := dk_181 0 174 (dk_at dksX0_weightOf_1 19 rfl rfl)
theorem dX0_weightOf_44 : decode cX0_weightOf 44 = .ok (.aload_n 0, 1) := dk_42 (dk_at dksX0_weightOf_1 22 rfl rfl)
theorem dX0_weightOf_45 : decode cX0_weightOf 45 = .ok (.invokevirtual 153, 3) := dk_182 0 153 (dk_at dksX0_weightOf_2 0 rfl rfl)
theorem dX0_weightOf_48 : decode cX0_weightOf 48 = .ok (.iload_n 2, 1) := dk_28 (dk_at dksX0_weightOf_2 3 rfl rfl)
theorem dX0_weightOf_49 : decode cX0_weightOf 49 = .ok (.invokevirtual 318, 3) := dk_182 1 62 (dk_at dksX0_weightOf_2 4 rfl rfl)
theorem dX0_weightOf_52 : decode cX0_weightOf 52 = .ok (.invokestatic 289, 3) := dk_184 1 33 (dk_at dksX0_weightOf_2 7 rfl rfl)
theorem dX0_weightOf_55 : decode cX0_weightOf 55 = .ok (.istore 5, 2) := dk_54 5 (dk_at dksX0_weightOf_2 10 rfl rfl)
theorem dX0_weightOf_57 : decode cX0_weightOf 57 = .ok (.aload_n 0, 1) := dk_42 (dk_at dksX0_weightOf_2 12 rfl rfl)
theorem dX0_weightOf_58 : decode cX0_weightOf 58 = .ok (.invokevirtual 153, 3) := dk_182 0 153 (dk_at dksX0_weightOf_2 13 rfl rfl)
theorem dX0_weightOf_61 : decode cX0_weightOf 61 = .ok (.iload 4, 2) := dk_21 4 (dk_at dksX0_weightOf_2 16 rfl rfl)
theorem dX0_weightOf_63 : decode cX0_weightOf 63 = .ok (.putfield 174, 3) := dk_181 0 174 (dk_at dksX0_weightOf_2 18 rfl rfl)
theorem dX0_weightOf_66 : decode cX0_weightOf 66 = .ok (.iload_n 3, 1) := dk_29 (dk_at dksX0_weightOf_2 21 rfl rfl)
theorem dX0_weightOf_67 : decode cX0_weightOf 67 = .ok (.iload 5, 2) := dk_21 5 (dk_at dksX0_weightOf_2 22 rfl rfl)
theorem dX0_weightOf_69 : decode cX0_weightOf 69 = .ok (.isub, 1) := dk_100 (dk_at dksX0_weightOf_3 0 rfl rfl)
theorem dX0_weightOf_70 : decode cX0_weightOf 70 = .ok (.ireturn, 1) := dk_172 (dk_at dksX0_weightOf_3 1 rfl rfl)
abbrev cX0_keystone : ByteArray := prog_1_method_63_code
def yX0_keystone : MethodName := ⟨RX0, "keystone", "(I)I"⟩
def dkwX0_keystone_3 : List UInt8 := [164, 0, 5, 29, 61, 132, 3, 1, 167, 255, 213, 42, 28, 182, 1, 59, 172]
abbrev dktX0_keystone_3 : List UInt8 := dkwX0_keystone_3 ++ []
def dkwX0_keystone_2 : List UInt8 := [182, 1, 21, 153, 0, 24, 28, 155, 0, 18, 42, 29, 27, 182, 1, 84, 42, 28, 27, 182, 1, 84]
abbrev dktX0_keystone_2 : List UInt8 := dkwX0_keystone_2 ++ dktX0_keystone_3
def dkwX0_keystone_1 : List UInt8 := [158, 0, 5, 2, 172, 2, 61, 3, 62, 29, 42, 182, 0, 153, 180, 0, 164, 162, 0, 38, 42, 29]
abbrev dktX0_keystone_1 : List UInt8 := dkwX0_keystone_1 ++ dktX0_keystone_2
def dkwX0_keystone_0 : List UInt8 := [42, 42, 27, 133, 182, 1, 52, 153, 0, 7, 3, 167, 0, 4, 4, 181, 0, 76, 42, 180, 0, 76]
abbrev dktX0_keystone_0 : List UInt8 := dkwX0_keystone_0 ++ dktX0_keystone_1
theorem dksX0_keystone_0 : cX0_keystone.data.toList.drop 0 = dktX0_keystone_0 := by decide +kernel
theorem dksX0_keystone_1 : cX0_keystone.data.toList.drop 22 = dktX0_keystone_1 := dk_seg dksX0_keystone_0 22 rfl rfl
theorem dksX0_keystone_2 : cX0_keystone.data.toList.drop 44 = dktX0_keystone_2 := dk_seg dksX0_keystone_1 22 rfl rfl
theorem dksX0_keystone_3 : cX0_keystone.data.toList.drop 66 = dktX0_keystone_3 := dk_seg dksX0_keystone_2 22 rfl rfl
theorem dX0_keystone_0 : decode cX0_keystone 0 = .ok (.aload_n 0, 1) := dk_42 (dk_at dksX0_keystone_0 0 rfl rfl)
theorem dX0_keystone_1 : decode cX0_keystone 1 = .ok (.aload_n 0, 1) := dk_42 (dk_at dksX0_keystone_0 1 rfl rfl)
theorem dX0_keystone_2 : decode cX0_keystone 2 = .ok (.iload_n 1, 1) := dk_27 (dk_at dksX0_keystone_0 2 rfl rfl)
theorem dX0_keystone_3 : decode cX0_keystone 3 = .ok (.i2l, 1) := dk_133 (dk_at dksX0_keystone_0 3 rfl rfl)
theorem dX0_keystone_4 : decode cX0_keystone 4 = .ok (.invokevirtual 308, 3) := dk_182 1 52 (dk_at dksX0_keystone_0 4 rfl rfl)
theorem dX0_keystone_7 : decode cX0_keystone 7 = .ok (.ifCond .eq 7, 3) := dk_153 0 7 (dk_at dksX0_keystone_0 7 rfl rfl)
theorem dX0_keystone_10 : decode cX0_keystone 10 = .ok (.iconst 0, 1) := dk_3 (dk_at dksX0_keystone_0 10 rfl rfl)
theorem dX0_keystone_11 : decode cX0_keystone 11 = .ok (.goto 4, 3) := dk_167 0 4 (dk_at dksX0_keystone_0 11 rfl rfl)
theorem dX0_keystone_14 : decode cX0_keystone 14 = .ok (.iconst 1, 1) := dk_4 (dk_at dksX0_keystone_0 14 rfl rfl)
theorem dX0_keystone_15 : decode cX0_keystone 15 = .ok (.putfield 76, 3) := dk_181 0 76 (dk_at dksX0_keystone_0 15 rfl rfl)
theorem dX0_keystone_18 : decode cX0_keystone 18 = .ok (.aload_n 0, 1) := dk_42 (dk_at dksX0_keystone_0 18 rfl rfl)
theorem dX0_keystone_19 : decode cX0_keystone 19 = .ok (.getfield 76, 3) := dk_180 0 76 (dk_at dksX0_keystone_0 19 rfl rfl)
theorem dX0_keystone_22 : decode cX0_keystone 22 = .ok (.ifCond .le 5, 3) := dk_158 0 5 (dk_at dksX0_keystone_1 0 rfl rfl)
theorem dX0_keystone_25 : decode cX0_keystone 25 = .ok (.iconst (-1), 1) := dk_2 (dk_at dksX0_keystone_1 3 rfl rfl)
theorem dX0_keystone_26 : decode cX0_keystone 26 = .ok (.ireturn, 1) := dk_172 (dk_at dksX0_keystone_1 4 rfl rfl)
theorem dX0_keystone_27 : decode cX0_keystone 27 = .ok (.iconst (-1), 1) := dk_2 (dk_at dksX0_keystone_1 5 rfl rfl)
theorem dX0_keystone_28 : decode cX0_keystone 28 = .ok (.istore_n 2, 1) := dk_61 (dk_at dksX0_keystone_1 6 rfl rfl)
theorem dX0_keystone_29 : decode cX0_keystone 29 = .ok (.iconst 0, 1) := dk_3 (dk_at dksX0_keystone_1 7 rfl rfl)
theorem dX0_keystone_30 : decode cX0_keystone 30 = .ok (.istore_n 3, 1) := dk_62 (dk_at dksX0_keystone_1 8 rfl rfl)
theorem dX0_keystone_31 : decode cX0_keystone 31 = .ok (.iload_n 3, 1) := dk_29 (dk_at dksX0_keystone_1 9 rfl rfl)
theorem dX0_keystone_32 : decode cX0_keystone 32 = .ok (.aload_n 0, 1) := dk_42 (dk_at dksX0_keystone_1 10 rfl rfl)
theorem dX0_keystone_33 : decode cX0_keystone 33 = .ok (.invokevirtual 153, 3) := dk_182 0 153 (dk_at dksX0_keystone_1 11 rfl rfl)
theorem dX0_keystone_36 : decode cX0_keystone 36 = .ok (.getfield 164, 3) := dk_180 0 164 (dk_at dksX0_keystone_1 14 rfl rfl)
theorem dX0_keystone_39 : decode cX0_keystone 39 = .ok (.if_icmp .ge 38, 3) := dk_162 0 38 (dk_at dksX0_keystone_1 17 rfl rfl)
theorem dX0_keystone_42 : decode cX0_keystone 42 = .ok (.aload_n 0, 1) := dk_42 (dk_at dksX0_keystone_1 20 rfl rfl)
theorem dX0_keystone_43 : decode cX0_keystone 43 = .ok (.iload_n 3, 1) := dk_29 (dk_at dksX0_keystone_1 21 rfl rfl)
theorem dX0_keystone_44 : decode cX0_keystone 44 = .ok (.invokevirtual 277, 3) := dk_182 1 21 (dk_at dksX0_keystone_2 0 rfl rfl)
theorem dX0_keystone_47 : decode cX0_keystone 47 = .ok (.ifCond .eq 24, 3) := dk_153 0 24 (dk_at dksX0_keystone_2 3 rfl rfl)
theorem dX0_keystone_50 : decode cX0_keystone 50 = .ok (.iload_n 2, 1) := dk_28 (dk_at dksX0_keystone_2 6 rfl rfl)
theorem dX0_keystone_51 : decode cX0_keystone 51 = .ok (.ifCond .lt 18, 3) := dk_155 0 18 (dk_at dksX0_keystone_2 7 rfl rfl)
theorem dX0_keystone_54 : decode cX0_keystone 54 = .ok (.aload_n 0, 1) := dk_42 (dk_at dksX0_keystone_2 10 rfl rfl)
theorem dX0_keystone_55 : decode cX0_keystone 55 = .ok (.iload_n 3, 1) := dk_29 (dk_at dksX0_keystone_2 11 rfl rfl)
theorem dX0_keystone_56 : decode cX0_keystone 56 = .ok (.iload_n 1, 1) := dk_27 (dk_at dksX0_keystone_2 12 rfl rfl)
theorem dX0_keystone_57 : decode cX0_keystone 57 = .ok (.invokevirtual 340, 3) := dk_182 1 84 (dk_at dksX0_keystone_2 13 rfl rfl)
theorem dX0_keystone_60 : decode cX0_keystone 60 = .ok (.aload_n 0, 1) := dk_42 (dk_at dksX0_keystone_2 16 rfl rfl)
theorem dX0_keystone_61 : decode cX0_keystone 61 = .ok (.iload_n 2, 1) := dk_28 (dk_at dksX0_keystone_2 17 rfl rfl)
theorem dX0_keystone_62 : decode cX0_keystone 62 = .ok (.iload_n 1, 1) := dk_27 (dk_at dksX0_keystone_2 18 rfl rfl)
theorem dX0_keystone_63 : decode cX0_keystone 63 = .ok (.invokevirtual 340, 3) := dk_182 1 84 (dk_at dksX0_keystone_2 19 rfl rfl)
theorem dX0_keystone_66 : decode cX0_keystone 66 = .ok (.if_icmp .le 5, 3) := dk_164 0 5 (dk_at dksX0_keystone_3 0 rfl rfl)
theorem dX0_keystone_69 : decode cX0_keystone 69 = .ok (.iload_n 3, 1) := dk_29 (dk_at dksX0_keystone_3 3 rfl rfl)
theorem dX0_keystone_70 : decode cX0_keystone 70 = .ok (.istore_n 2, 1) := dk_61 (dk_at dksX0_keystone_3 4 rfl rfl)
theorem dX0_keystone_71 : decode cX0_keystone 71 = .ok (.iinc 3 1, 3) := dk_132 3 1 (dk_at dksX0_keystone_3 5 rfl rfl)
theorem dX0_keystone_74 : decode cX0_keystone 74 = .ok (.goto (-43), 3) := dk_167 255 213 (dk_at dksX0_keystone_3 8 rfl rfl)
theorem dX0_keystone_77 : decode cX0_keystone 77 = .ok (.aload_n 0, 1) := dk_42 (dk_at dksX0_keystone_3 11 rfl rfl)
theorem dX0_keystone_78 : decode cX0_keystone 78 = .ok (.iload_n 2, 1) := dk_28 (dk_at dksX0_keystone_3 12 rfl rfl)
theorem dX0_keystone_79 : decode cX0_keystone 79 = .ok (.invokevirtual 315, 3) := dk_182 1 59 (dk_at dksX0_keystone_3 13 rfl rfl)
theorem dX0_keystone_82 : decode cX0_keystone 82 = .ok (.ireturn, 1) := dk_172 (dk_at dksX0_keystone_3 16 rfl rfl)
abbrev cX0_lures : ByteArray := prog_1_method_66_code
def yX0_lures : MethodName := ⟨RX0, "lures", "(I)I"⟩
def dkwX0_lures_1 : List UInt8 := [42, 28, 156, 0, 7, 2, 167, 0, 7, 28, 184, 1, 33, 182, 1, 59, 172]
abbrev dktX0_lures_1 : List UInt8 := dkwX0_lures_1 ++ []
def dkwX0_lures_0 : List UInt8 := [42, 42, 27, 182, 1, 87, 181, 0, 76, 42, 180, 0, 76, 158, 0, 5, 2, 172, 42, 27, 182, 1, 90, 61]
abbrev dktX0_lures_0 : List UInt8 := dkwX0_lures_0 ++ dktX0_lures_1
theorem dksX0_lures_0 : cX0_lures.data.toList.drop 0 = dktX0_lures_0 := by decide +kernel
theorem dksX0_lures_1 : cX0_lures.data.toList.drop 24 = dktX0_lures_1 := dk_seg dksX0_lures_0 24 rfl rfl
theorem dX0_lures_0 : decode cX0_lures 0 = .ok (.aload_n 0, 1) := dk_42 (dk_at dksX0_lures_0 0 rfl rfl)
theorem dX0_lures_1 : decode cX0_lures 1 = .ok (.aload_n 0, 1) := dk_42 (dk_at dksX0_lures_0 1 rfl rfl)
theorem dX0_lures_2 : decode cX0_lures 2 = .ok (.iload_n 1, 1) := dk_27 (dk_at dksX0_lures_0 2 rfl rfl)
theorem dX0_lures_3 : decode cX0_lures 3 = .ok (.invokevirtual 343, 3) := dk_182 1 87 (dk_at dksX0_lures_0 3 rfl rfl)
theorem dX0_lures_6 : decode cX0_lures 6 = .ok (.putfield 76, 3) := dk_181 0 76 (dk_at dksX0_lures_0 6 rfl rfl)
theorem dX0_lures_9 : decode cX0_lures 9 = .ok (.aload_n 0, 1) := dk_42 (dk_at dksX0_lures_0 9 rfl rfl)
theorem dX0_lures_10 : decode cX0_lures 10 = .ok (.getfield 76, 3) := dk_180 0 76 (dk_at dksX0_lures_0 10 rfl rfl)
theorem dX0_lures_13 : decode cX0_lures 13 = .ok (.ifCond .le 5, 3) := dk_158 0 5 (dk_at dksX0_lures_0 13 rfl rfl)
theorem dX0_lures_16 : decode cX0_lures 16 = .ok (.iconst (-1), 1) := dk_2 (dk_at dksX0_lures_0 16 rfl rfl)
theorem dX0_lures_17 : decode cX0_lures 17 = .ok (.ireturn, 1) := dk_172 (dk_at dksX0_lures_0 17 rfl rfl)
theorem dX0_lures_18 : decode cX0_lures 18 = .ok (.aload_n 0, 1) := dk_42 (dk_at dksX0_lures_0 18 rfl rfl)
theorem dX0_lures_19 : decode cX0_lures 19 = .ok (.iload_n 1, 1) := dk_27 (dk_at dksX0_lures_0 19 rfl rfl)
theorem dX0_lures_20 : decode cX0_lures 20 = .ok (.invokevirtual 346, 3) := dk_182 1 90 (dk_at dksX0_lures_0 20 rfl rfl)
theorem dX0_lures_23 : decode cX0_lures 23 = .ok (.istore_n 2, 1) := dk_61 (dk_at dksX0_lures_0 23 rfl rfl)
theorem dX0_lures_24 : decode cX0_lures 24 = .ok (.aload_n 0, 1) := dk_42 (dk_at dksX0_lures_1 0 rfl rfl)
theorem dX0_lures_25 : decode cX0_lures 25 = .ok (.iload_n 2, 1) := dk_28 (dk_at dksX0_lures_1 1 rfl rfl)
theorem dX0_lures_26 : decode cX0_lures 26 = .ok (.ifCond .ge 7, 3) := dk_156 0 7 (dk_at dksX0_lures_1 2 rfl rfl)
theorem dX0_lures_29 : decode cX0_lures 29 = .ok (.iconst (-1), 1) := dk_2 (dk_at dksX0_lures_1 5 rfl rfl)
theorem dX0_lures_30 : decode cX0_lures 30 = .ok (.goto 7, 3) := dk_167 0 7 (dk_at dksX0_lures_1 6 rfl rfl)
theorem dX0_lures_33 : decode cX0_lures 33 = .ok (.iload_n 2, 1) := dk_28 (dk_at dksX0_lures_1 9 rfl rfl)
theorem dX0_lures_34 : decode cX0_lures 34 = .ok (.invokestatic 289, 3) := dk_184 1 33 (dk_at dksX0_lures_1 10 rfl rfl)
theorem dX0_lures_37 : decode cX0_lures 37 = .ok (.invokevirtual 315, 3) := dk_182 1 59 (dk_at dksX0_lures_1 13 rfl rfl)
theorem dX0_lures_40 : decode cX0_lures 40 = .ok (.ireturn, 1) := dk_172 (dk_at dksX0_lures_1 16 rfl rfl)
abbrev cX0_whyNotAboard : ByteArray := prog_1_method_65_code
def yX0_whyNotAboard : MethodName := ⟨RX0, "whyNotAboard", "(I)I"⟩
def dkwX0_whyNotAboard_1 : List UInt8 := [16, 7, 172]
abbrev dktX0_whyNotAboard_1 : List UInt8 := dkwX0_whyNotAboard_1 ++ []
def dkwX0_whyNotAboard_0 : List UInt8 := [42, 27, 182, 1, 9, 154, 0, 7, 4, 167, 0, 17, 42, 27, 182, 1, 21, 153, 0, 7, 3, 167, 0, 5]
abbrev dktX0_whyNotAboard_0 : List UInt8 := dkwX0_whyNotAboard_0 ++ dktX0_whyNotAboard_1
theorem dksX0_whyNotAboard_0 : cX0_whyNotAboard.data.toList.drop 0 = dktX0_whyNotAboard_0 := by decide +kernel
theorem dksX0_whyNotAboard_1 : cX0_whyNotAboard.data.toList.drop 24 = dktX0_whyNotAboard_1 := dk_seg dksX0_whyNotAboard_0 24 rfl rfl
theorem dX0_whyNotAboard_0 : decode cX0_whyNotAboard 0 = .ok (.aload_n 0, 1) := dk_42 (dk_at dksX0_whyNotAboard_0 0 rfl rfl)
theorem dX0_whyNotAboard_1 : decode cX0_whyNotAboard 1 = .ok (.iload_n 1, 1) := dk_27 (dk_at dksX0_whyNotAboard_0 1 rfl rfl)
theorem dX0_whyNotAboard_2 : decode cX0_whyNotAboard 2 = .ok (.invokevirtual 265, 3) := dk_182 1 9 (dk_at dksX0_whyNotAboard_0 2 rfl rfl)
theorem dX0_whyNotAboard_5 : decode cX0_whyNotAboard 5 = .ok (.ifCond .ne 7, 3) := dk_154 0 7 (dk_at dksX0_whyNotAboard_0 5 rfl rfl)
theorem dX0_whyNotAboard_8 : decode cX0_whyNotAboard 8 = .ok (.iconst 1, 1) := dk_4 (dk_at dksX0_whyNotAboard_0 8 rfl rfl)
theorem dX0_whyNotAboard_9 : decode cX0_whyNotAboard 9 = .ok (.goto 17, 3) := dk_167 0 17 (dk_at dksX0_whyNotAboard_0 9 rfl rfl)
theorem dX0_whyNotAboard_12 : decode cX0_whyNotAboard 12 = .ok (.aload_n 0, 1) := dk_42 (dk_at dksX0_whyNotAboard_0 12 rfl rfl)
theorem dX0_whyNotAboard_13 : decode cX0_whyNotAboard 13 = .ok (.iload_n 1, 1) := dk_27 (dk_at dksX0_whyNotAboard_0 13 rfl rfl)
theorem dX0_whyNotAboard_14 : decode cX0_whyNotAboard 14 = .ok (.invokevirtual 277, 3) := dk_182 1 21 (dk_at dksX0_whyNotAboard_0 14 rfl rfl)
theorem dX0_whyNotAboard_17 : decode cX0_whyNotAboard 17 = .ok (.ifCond .eq 7, 3) := dk_153 0 7 (dk_at dksX0_whyNotAboard_0 17 rfl rfl)
theorem dX0_whyNotAboard_20 : decode cX0_whyNotAboard 20 = .ok (.iconst 0, 1) := dk_3 (dk_at dksX0_whyNotAboard_0 20 rfl rfl)
theorem dX0_whyNotAboard_21 : decode cX0_whyNotAboard 21 = .ok (.goto 5, 3) := dk_167 0 5 (dk_at dksX0_whyNotAboard_0 21 rfl rfl)
theorem dX0_whyNotAboard_24 : decode cX0_whyNotAboard 24 = .ok (.bipush 7, 2) := dk_16 7 (dk_at dksX0_whyNotAboard_1 0 rfl rfl)
theorem dX0_whyNotAboard_26 : decode cX0_whyNotAboard 26 = .ok (.ireturn, 1) := dk_172 (dk_at dksX0_whyNotAboard_1 2 rfl rfl)
abbrev cX0_luring : ByteArray := prog_1_method_64_code
def yX0_luring : MethodName := ⟨RX0, "luring", "(I)I"⟩
def dkwX0_luring_2 : List UInt8 := [167, 255, 213, 28, 172]
abbrev dktX0_luring_2 : List UInt8 := dkwX0_luring_2 ++ []
def dkwX0_luring_1 : List UInt8 := [162, 0, 20, 42, 182, 0, 153, 29, 182, 1, 62, 27, 184, 0, 177, 153, 0, 5, 29, 61, 132, 3, 1]
abbrev dktX0_luring_1 : List UInt8 := dkwX0_luring_1 ++ dktX0_luring_2
def dkwX0_luring_0 : List UInt8 := [2, 61, 3, 62, 29, 42, 182, 0, 167, 163, 0, 41, 28, 155, 0, 14, 29, 184, 1, 33, 28, 184, 1, 33]
abbrev dktX0_luring_0 : List UInt8 := dkwX0_luring_0 ++ dktX0_luring_1
theorem dksX0_luring_0 : cX0_luring.data.toList.drop 0 = dktX0_luring_0 := by decide +kernel
theorem dksX0_luring_1 : cX0_luring.data.toList.drop 24 = dktX0_luring_1 := dk_seg dksX0_luring_0 24 rfl rfl
theorem dksX0_luring_2 : cX0_luring.data.toList.drop 47 = dktX0_luring_2 := dk_seg dksX0_luring_1 23 rfl rfl
theorem dX0_luring_0 : decode cX0_luring 0 = .ok (.iconst (-1), 1) := dk_2 (dk_at dksX0_luring_0 0 rfl rfl)
theorem dX0_luring_1 : decode cX0_luring 1 = .ok (.istore_n 2, 1) := dk_61 (dk_at dksX0_luring_0 1 rfl rfl)
theorem dX0_luring_2 : decode cX0_luring 2 = .ok (.iconst 0, 1) := dk_3 (dk_at dksX0_luring_0 2 rfl rfl)
theorem dX0_luring_3 : decode cX0_luring 3 = .ok (.istore_n 3, 1) := dk_62 (dk_at dksX0_luring_0 3 rfl rfl)
theorem dX0_luring_4 : decode cX0_luring 4 = .ok (.iload_n 3, 1) := dk_29 (dk_at dksX0_luring_0 4 rfl rfl)
theorem dX0_luring_5 : decode cX0_luring 5 = .ok (.aload_n 0, 1) := dk_42 (dk_at dksX0_luring_0 5 rfl rfl)
theorem dX0_luring_6 : decode cX0_luring 6 = .ok (.invokevirtual 167, 3) := dk_182 0 167 (dk_at dksX0_luring_0 6 rfl rfl)
theorem dX0_luring_9 : decode cX0_luring 9 = .ok (.if_icmp .gt 41, 3) := dk_163 0 41 (dk_at dksX0_luring_0 9 rfl rfl)
theorem dX0_luring_12 : decode cX0_luring 12 = .ok (.iload_n 2, 1) := dk_28 (dk_at dksX0_luring_0 12 rfl rfl)
theorem dX0_luring_13 : decode cX0_luring 13 = .ok (.ifCond .lt 14, 3) := dk_155 0 14 (dk_at dksX0_luring_0 13 rfl rfl)
theorem dX0_luring_16 : decode cX0_luring 16 = .ok (.iload_n 3, 1) := dk_29 (dk_at dksX0_luring_0 16 rfl rfl)
theorem dX0_luring_17 : decode cX0_luring 17 = .ok (.invokestatic 289, 3) := dk_184 1 33 (dk_at dksX0_luring_0 17 rfl rfl)
theorem dX0_luring_20 : decode cX0_luring 20 = .ok (.iload_n 2, 1) := dk_28 (dk_at dksX0_luring_0 20 rfl rfl)
theorem dX0_luring_21 : decode cX0_luring 21 = .ok (.invokestatic 289, 3) := dk_184 1 33 (dk_at dksX0_luring_0 21 rfl rfl)
theorem dX0_luring_24 : decode cX0_luring 24 = .ok (.if_icmp .ge 20, 3) := dk_162 0 20 (dk_at dksX0_luring_1 0 rfl rfl)
theorem dX0_luring_27 : decode cX0_luring 27 = .ok (.aload_n 0, 1) := dk_42 (dk_at dksX0_luring_1 3 rfl rfl)
theorem dX0_luring_28 : decode cX0_luring 28 = .ok (.invokevirtual 153, 3) := dk_182 0 153 (dk_at dksX0_luring_1 4 rfl rfl)
theorem dX0_luring_31 : decode cX0_luring 31 = .ok (.iload_n 3, 1) := dk_29 (dk_at dksX0_luring_1 7 rfl rfl)
theorem dX0_luring_32 : decode cX0_luring 32 = .ok (.invokevirtual 318, 3) := dk_182 1 62 (dk_at dksX0_luring_1 8 rfl rfl)
theorem dX0_luring_35 : decode cX0_luring 35 = .ok (.iload_n 1, 1) := dk_27 (dk_at dksX0_luring_1 11 rfl rfl)
theorem dX0_luring_36 : decode cX0_luring 36 = .ok (.invokestatic 177, 3) := dk_184 0 177 (dk_at dksX0_luring_1 12 rfl rfl)
theorem dX0_luring_39 : decode cX0_luring 39 = .ok (.ifCond .eq 5, 3) := dk_153 0 5 (dk_at dksX0_luring_1 15 rfl rfl)
theorem dX0_luring_42 : decode cX0_luring 42 = .ok (.iload_n 3, 1) := dk_29 (dk_at dksX0_luring_1 18 rfl rfl)
theorem dX0_luring_43 : decode cX0_luring 43 = .ok (.istore_n 2, 1) := dk_61 (dk_at dksX0_luring_1 19 rfl rfl)
theorem dX0_luring_44 : decode cX0_luring 44 = .ok (.iinc 3 1, 3) := dk_132 3 1 (dk_at dksX0_luring_1 20 rfl rfl)
theorem dX0_luring_47 : decode cX0_luring 47 = .ok (.goto (-43), 3) := dk_167 255 213 (dk_at dksX0_luring_2 0 rfl rfl)
theorem dX0_luring_50 : decode cX0_luring 50 = .ok (.iload_n 2, 1) := dk_28 (dk_at dksX0_luring_2 3 rfl rfl)
theorem dX0_luring_51 : decode cX0_luring 51 = .ok (.ireturn, 1) := dk_172 (dk_at dksX0_luring_2 4 rfl rfl)
abbrev cX0_lureSet : ByteArray := prog_1_method_67_code
def yX0_lureSet : MethodName := ⟨RX0, "lureSet", "(I)I"⟩
def dkwX0_lureSet_1 : List UInt8 := [182, 1, 90, 182, 1, 59, 172]
abbrev dktX0_lureSet_1 : List UInt8 := dkwX0_lureSet_1 ++ []
def dkwX0_lureSet_0 : List UInt8 := [42, 42, 27, 182, 1, 87, 181, 0, 76, 42, 180, 0, 76, 158, 0, 7, 2, 167, 0, 12, 42, 42, 27]
abbrev dktX0_lureSet_0 : List UInt8 := dkwX0_lureSet_0 ++ dktX0_lureSet_1
theorem dksX0_lureSet_0 : cX0_lureSet.data.toList.drop 0 = dktX0_lureSet_0 := by decide +kernel
theorem dksX0_lureSet_1 : cX0_lureSet.data.toList.drop 23 = dktX0_lureSet_1 := dk_seg dksX0_lureSet_0 23 rfl rfl
theorem dX0_lureSet_0 : decode cX0_lureSet 0 = .ok (.aload_n 0, 1) := dk_42 (dk_at dksX0_lureSet_0 0 rfl rfl)
theorem dX0_lureSet_1 : decode cX0_lureSet 1 = .ok (.aload_n 0, 1) := dk_42 (dk_at dksX0_lureSet_0 1 rfl rfl)
theorem dX0_lureSet_2 : decode cX0_lureSet 2 = .ok (.iload_n 1, 1) := dk_27 (dk_at dksX0_lureSet_0 2 rfl rfl)
theorem dX0_lureSet_3 : decode cX0_lureSet 3 = .ok (.invokevirtual 343, 3) := dk_182 1 87 (dk_at dksX0_lureSet_0 3 rfl rfl)
theorem dX0_lureSet_6 : decode cX0_lureSet 6 = .ok (.putfield 76, 3) := dk_181 0 76 (dk_at dksX0_lureSet_0 6 rfl rfl)
theorem dX0_lureSet_9 : decode cX0_lureSet 9 = .ok (.aload_n 0, 1) := dk_42 (dk_at dksX0_lureSet_0 9 rfl rfl)
theorem dX0_lureSet_10 : decode cX0_lureSet 10 = .ok (.getfield 76, 3) := dk_180 0 76 (dk_at dksX0_lureSet_0 10 rfl rfl)
theorem dX0_lureSet_13 : decode cX0_lureSet 13 = .ok (.ifCond .le 7, 3) := dk_158 0 7 (dk_at dksX0_lureSet_0 13 rfl rfl)
theorem dX0_lureSet_16 : decode cX0_lureSet 16 = .ok (.iconst (-1), 1) := dk_2 (dk_at dksX0_lureSet_0 16 rfl rfl)
theorem dX0_lureSet_17 : decode cX0_lureSet 17 = .ok (.goto 12, 3) := dk_167 0 12 (dk_at dksX0_lureSet_0 17 rfl rfl)
theorem dX0_lureSet_20 : decode cX0_lureSet 20 = .ok (.aload_n 0, 1) := dk_42 (dk_at dksX0_lureSet_0 20 rfl rfl)
theorem dX0_lureSet_21 : decode cX0_lureSet 21 = .ok (.aload_n 0, 1) := dk_42 (dk_at dksX0_lureSet_0 21 rfl rfl)
theorem dX0_lureSet_22 : decode cX0_lureSet 22 = .ok (.iload_n 1, 1) := dk_27 (dk_at dksX0_lureSet_0 22 rfl rfl)
theorem dX0_lureSet_23 : decode cX0_lureSet 23 = .ok (.invokevirtual 346, 3) := dk_182 1 90 (dk_at dksX0_lureSet_1 0 rfl rfl)
theorem dX0_lureSet_26 : decode cX0_lureSet 26 = .ok (.invokevirtual 315, 3) := dk_182 1 59 (dk_at dksX0_lureSet_1 3 rfl rfl)
theorem dX0_lureSet_29 : decode cX0_lureSet 29 = .ok (.ireturn, 1) := dk_172 (dk_at dksX0_lureSet_1 6 rfl rfl)
abbrev cX0_best : ByteArray := prog_1_method_69_code
def yX0_best : MethodName := ⟨RX0, "best", "()I"⟩
def dkwX0_best_0 : List UInt8 := [42, 3, 181, 0, 76, 42, 182, 1, 93, 172]
abbrev dktX0_best_0 : List UInt8 := dkwX0_best_0 ++ []
theorem dksX0_best_0 : cX0_best.data.toList.drop 0 = dktX0_best_0 := by decide +kernel
theorem dX0_best_0 : decode cX0_best 0 = .ok (.aload_n 0, 1) := dk_42 (dk_at dksX0_best_0 0 rfl rfl)
theorem dX0_best_1 : decode cX0_best 1 = .ok (.iconst 0, 1) := dk_3 (dk_at dksX0_best_0 1 rfl rfl)
theorem dX0_best_2 : decode cX0_best 2 = .ok (.putfield 76, 3) := dk_181 0 76 (dk_at dksX0_best_0 2 rfl rfl)
theorem dX0_best_5 : decode cX0_best 5 = .ok (.aload_n 0, 1) := dk_42 (dk_at dksX0_best_0 5 rfl rfl)
theorem dX0_best_6 : decode cX0_best 6 = .ok (.invokevirtual 349, 3) := dk_182 1 93 (dk_at dksX0_best_0 6 rfl rfl)
theorem dX0_best_9 : decode cX0_best 9 = .ok (.ireturn, 1) := dk_172 (dk_at dksX0_best_0 9 rfl rfl)
abbrev cX0_bestOmens : ByteArray := prog_1_method_68_code
def yX0_bestOmens : MethodName := ⟨RX0, "bestOmens", "()I"⟩
def dkwX0_bestOmens_2 : List UInt8 := [27, 184, 1, 33, 162, 0, 5, 28, 60, 132, 2, 1, 167, 255, 200, 27, 172]
abbrev dktX0_bestOmens_2 : List UInt8 := dkwX0_bestOmens_2 ++ []
def dkwX0_bestOmens_1 : List UInt8 := [182, 0, 153, 27, 182, 1, 62, 184, 1, 33, 100, 62, 29, 157, 0, 18, 29, 154, 0, 16, 28, 184, 1, 33]
abbrev dktX0_bestOmens_1 : List UInt8 := dkwX0_bestOmens_1 ++ dktX0_bestOmens_2
def dkwX0_bestOmens_0 : List UInt8 := [3, 60, 4, 61, 28, 42, 182, 0, 167, 163, 0, 54, 42, 182, 0, 153, 28, 182, 1, 62, 184, 1, 33, 42]
abbrev dktX0_bestOmens_0 : List UInt8 := dkwX0_bestOmens_0 ++ dktX0_bestOmens_1
theorem dksX0_bestOmens_0 : cX0_bestOmens.data.toList.drop 0 = dktX0_bestOmens_0 := by decide +kernel
theorem dksX0_bestOmens_1 : cX0_bestOmens.data.toList.drop 24 = dktX0_bestOmens_1 := dk_seg dksX0_bestOmens_0 24 rfl rfl
theorem dksX0_bestOmens_2 : cX0_bestOmens.data.toList.drop 48 = dktX0_bestOmens_2 := dk_seg dksX0_bestOmens_1 24 rfl rfl
theorem dX0_bestOmens_0 : decode cX0_bestOmens 0 = .ok (.iconst 0, 1) := dk_3 (dk_at dksX0_bestOmens_0 0 rfl rfl)
theorem dX0_bestOmens_1 : decode cX0_bestOmens 1 = .ok (.istore_n 1, 1) := dk_60 (dk_at dksX0_bestOmens_0 1 rfl rfl)
theorem dX0_bestOmens_2 : decode cX0_bestOmens 2 = .ok (.iconst 1, 1) := dk_4 (dk_at dksX0_bestOmens_0 2 rfl rfl)
theorem dX0_bestOmens_3 : decode cX0_bestOmens 3 = .ok (.istore_n 2, 1) := dk_61 (dk_at dksX0_bestOmens_0 3 rfl rfl)
theorem dX0_bestOmens_4 : decode cX0_bestOmens 4 = .ok (.iload_n 2, 1) := dk_28 (dk_at dksX0_bestOmens_0 4 rfl rfl)
theorem dX0_bestOmens_5 : decode cX0_bestOmens 5 = .ok (.aload_n 0, 1) := dk_42 (dk_at dksX0_bestOmens_0 5 rfl rfl)
theorem dX0_bestOmens_6 : decode cX0_bestOmens 6 = .ok (.invokevirtual 167, 3) := dk_182 0 167 (dk_at dksX0_bestOmens_0 6 rfl rfl)
theorem dX0_bestOmens_9 : decode cX0_bestOmens 9 = .ok (.if_icmp .gt 54, 3) := dk_163 0 54 (dk_at dksX0_bestOmens_0 9 rfl rfl)
theorem dX0_bestOmens_12 : decode cX0_bestOmens 12 = .ok (.aload_n 0, 1) := dk_42 (dk_at dksX0_bestOmens_0 12 rfl rfl)
theorem dX0_bestOmens_13 : decode cX0_bestOmens 13 = .ok (.invokevirtual 153, 3) := dk_182 0 153 (dk_at dksX0_bestOmens_0 13 rfl rfl)
theorem dX0_bestOmens_16 : decode cX0_bestOmens 16 = .ok (.iload_n 2, 1) := dk_28 (dk_at dksX0_bestOmens_0 16 rfl rfl)
theorem dX0_bestOmens_17 : decode cX0_bestOmens 17 = .ok (.invokevirtual 318, 3) := dk_182 1 62 (dk_at dksX0_bestOmens_0 17 rfl rfl)
theorem dX0_bestOmens_20 : decode cX0_bestOmens 20 = .ok (.invokestatic 289, 3) := dk_184 1 33 (dk_at dksX0_bestOmens_0 20 rfl rfl)
theorem dX0_bestOmens_23 : decode cX0_bestOmens 23 = .ok (.aload_n 0, 1) := dk_42 (dk_at dksX0_bestOmens_0 23 rfl rfl)
theorem dX0_bestOmens_24 : decode cX0_bestOmens 24 = .ok (.invokevirtual 153, 3) := dk_182 0 153 (dk_at dksX0_bestOmens_1 0 rfl rfl)
theorem dX0_bestOmens_27 : decode cX0_bestOmens 27 = .ok (.iload_n 1, 1) := dk_27 (dk_at dksX0_bestOmens_1 3 rfl rfl)
theorem dX0_bestOmens_28 : decode cX0_bestOmens 28 = .ok (.invokevirtual 318, 3) := dk_182 1 62 (dk_at dksX0_bestOmens_1 4 rfl rfl)
theorem dX0_bestOmens_31 : decode cX0_bestOmens 31 = .ok (.invokestatic 289, 3) := dk_184 1 33 (dk_at dksX0_bestOmens_1 7 rfl rfl)
theorem dX0_bestOmens_34 : decode cX0_bestOmens 34 = .ok (.isub, 1) := dk_100 (dk_at dksX0_bestOmens_1 10 rfl rfl)
theorem dX0_bestOmens_35 : decode cX0_bestOmens 35 = .ok (.istore_n 3, 1) := dk_62 (dk_at dksX0_bestOmens_1 11 rfl rfl)
theorem dX0_bestOmens_36 : decode cX0_bestOmens 36 = .ok (.iload_n 3, 1) := dk_29 (dk_at dksX0_bestOmens_1 12 rfl rfl)
theorem dX0_bestOmens_37 : decode cX0_bestOmens 37 = .ok (.ifCond .gt 18, 3) := dk_157 0 18 (dk_at dksX0_bestOmens_1 13 rfl rfl)
theorem dX0_bestOmens_40 : decode cX0_bestOmens 40 = .ok (.iload_n 3, 1) := dk_29 (dk_at dksX0_bestOmens_1 16 rfl rfl)
theorem dX0_bestOmens_41 : decode cX0_bestOmens 41 = .ok (.ifCond .ne 16, 3) := dk_154 0 16 (dk_at dksX0_bestOmens_1 17 rfl rfl)
theorem dX0_bestOmens_44 : decode cX0_bestOmens 44 = .ok (.iload_n 2, 1) := dk_28 (dk_at dksX0_bestOmens_1 20 rfl rfl)
theorem dX0_bestOmens_45 : decode cX0_bestOmens 45 = .ok (.invokestatic 289, 3) := dk_184 1 33 (dk_at dksX0_bestOmens_1 21 rfl rfl)
theorem dX0_bestOmens_48 : decode cX0_bestOmens 48 = .ok (.iload_n 1, 1) := dk_27 (dk_at dksX0_bestOmens_2 0 rfl rfl)
theorem dX0_bestOmens_49 : decode cX0_bestOmens 49 = .ok (.invokestatic 289, 3) := dk_184 1 33 (dk_at dksX0_bestOmens_2 1 rfl rfl)
theorem dX0_bestOmens_52 : decode cX0_bestOmens 52 = .ok (.if_icmp .ge 5, 3) := dk_162 0 5 (dk_at dksX0_bestOmens_2 4 rfl rfl)
theorem dX0_bestOmens_55 : decode cX0_bestOmens 55 = .ok (.iload_n 2, 1) := dk_28 (dk_at dksX0_bestOmens_2 7 rfl rfl)
theorem dX0_bestOmens_56 : decode cX0_bestOmens 56 = .ok (.istore_n 1, 1) := dk_60 (dk_at dksX0_bestOmens_2 8 rfl rfl)
theorem dX0_bestOmens_57 : decode cX0_bestOmens 57 = .ok (.iinc 2 1, 3) := dk_132 2 1 (dk_at dksX0_bestOmens_2 9 rfl rfl)
theorem dX0_bestOmens_60 : decode cX0_bestOmens 60 = .ok (.goto (-56), 3) := dk_167 255 200 (dk_at dksX0_bestOmens_2 12 rfl rfl)
theorem dX0_bestOmens_63 : decode cX0_bestOmens 63 = .ok (.iload_n 1, 1) := dk_27 (dk_at dksX0_bestOmens_2 15 rfl rfl)
theorem dX0_bestOmens_64 : decode cX0_bestOmens 64 = .ok (.ireturn, 1) := dk_172 (dk_at dksX0_bestOmens_2 16 rfl rfl)
abbrev cX0_bestOut : ByteArray := prog_1_method_70_code
def yX0_bestOut : MethodName := ⟨RX0, "bestOut", "()I"⟩
def dkwX0_bestOut_0 : List UInt8 := [42, 3, 181, 0, 76, 42, 182, 0, 153, 42, 182, 1, 93, 182, 1, 62, 184, 1, 33, 172]
abbrev dktX0_bestOut_0 : List UInt8 := dkwX0_bestOut_0 ++ []
theorem dksX0_bestOut_0 : cX0_bestOut.data.toList.drop 0 = dktX0_bestOut_0 := by decide +kernel
theorem dX0_bestOut_0 : decode cX0_bestOut 0 = .ok (.aload_n 0, 1) := dk_42 (dk_at dksX0_bestOut_0 0 rfl rfl)
theorem dX0_bestOut_1 : decode cX0_bestOut 1 = .ok (.iconst 0, 1) := dk_3 (dk_at dksX0_bestOut_0 1 rfl rfl)
theorem dX0_bestOut_2 : decode cX0_bestOut 2 = .ok (.putfield 76, 3) := dk_181 0 76 (dk_at dksX0_bestOut_0 2 rfl rfl)
theorem dX0_bestOut_5 : decode cX0_bestOut 5 = .ok (.aload_n 0, 1) := dk_42 (dk_at dksX0_bestOut_0 5 rfl rfl)
theorem dX0_bestOut_6 : decode cX0_bestOut 6 = .ok (.invokevirtual 153, 3) := dk_182 0 153 (dk_at dksX0_bestOut_0 6 rfl rfl)
theorem dX0_bestOut_9 : decode cX0_bestOut 9 = .ok (.aload_n 0, 1) := dk_42 (dk_at dksX0_bestOut_0 9 rfl rfl)
theorem dX0_bestOut_10 : decode cX0_bestOut 10 = .ok (.invokevirtual 349, 3) := dk_182 1 93 (dk_at dksX0_bestOut_0 10 rfl rfl)
theorem dX0_bestOut_13 : decode cX0_bestOut 13 = .ok (.invokevirtual 318, 3) := dk_182 1 62 (dk_at dksX0_bestOut_0 13 rfl rfl)
theorem dX0_bestOut_16 : decode cX0_bestOut 16 = .ok (.invokestatic 289, 3) := dk_184 1 33 (dk_at dksX0_bestOut_0 16 rfl rfl)
theorem dX0_bestOut_19 : decode cX0_bestOut 19 = .ok (.ireturn, 1) := dk_172 (dk_at dksX0_bestOut_0 19 rfl rfl)
abbrev cX0_never : ByteArray := prog_1_method_71_code
def yX0_never : MethodName := ⟨RX0, "never", "()I"⟩
def dkwX0_never_1 : List UInt8 := [42, 182, 0, 153, 28, 182, 1, 62, 2, 130, 126, 60, 132, 2, 1, 167, 255, 232, 27, 172]
abbrev dktX0_never_1 : List UInt8 := dkwX0_never_1 ++ []
def dkwX0_never_0 : List UInt8 := [42, 3, 181, 0, 76, 42, 182, 0, 153, 180, 0, 174, 60, 3, 61, 28, 42, 182, 0, 167, 163, 0, 22, 27]
abbrev dktX0_never_0 : List UInt8 := dkwX0_never_0 ++ dktX0_never_1
theorem dksX0_never_0 : cX0_never.data.toList.drop 0 = dktX0_never_0 := by decide +kernel
theorem dksX0_never_1 : cX0_never.data.toList.drop 24 = dktX0_never_1 := dk_seg dksX0_never_0 24 rfl rfl
theorem dX0_never_0 : decode cX0_never 0 = .ok (.aload_n 0, 1) := dk_42 (dk_at dksX0_never_0 0 rfl rfl)
theorem dX0_never_1 : decode cX0_never 1 = .ok (.iconst 0, 1) := dk_3 (dk_at dksX0_never_0 1 rfl rfl)
theorem dX0_never_2 : decode cX0_never 2 = .ok (.putfield 76, 3) := dk_181 0 76 (dk_at dksX0_never_0 2 rfl rfl)
theorem dX0_never_5 : decode cX0_never 5 = .ok (.aload_n 0, 1) := dk_42 (dk_at dksX0_never_0 5 rfl rfl)
theorem dX0_never_6 : decode cX0_never 6 = .ok (.invokevirtual 153, 3) := dk_182 0 153 (dk_at dksX0_never_0 6 rfl rfl)
theorem dX0_never_9 : decode cX0_never 9 = .ok (.getfield 174, 3) := dk_180 0 174 (dk_at dksX0_never_0 9 rfl rfl)
theorem dX0_never_12 : decode cX0_never 12 = .ok (.istore_n 1, 1) := dk_60 (dk_at dksX0_never_0 12 rfl rfl)
theorem dX0_never_13 : decode cX0_never 13 = .ok (.iconst 0, 1) := dk_3 (dk_at dksX0_never_0 13 rfl rfl)
theorem dX0_never_14 : decode cX0_never 14 = .ok (.istore_n 2, 1) := dk_61 (dk_at dksX0_never_0 14 rfl rfl)
theorem dX0_never_15 : decode cX0_never 15 = .ok (.iload_n 2, 1) := dk_28 (dk_at dksX0_never_0 15 rfl rfl)
theorem dX0_never_16 : decode cX0_never 16 = .ok (.aload_n 0, 1) := dk_42 (dk_at dksX0_never_0 16 rfl rfl)
theorem dX0_never_17 : decode cX0_never 17 = .ok (.invokevirtual 167, 3) := dk_182 0 167 (dk_at dksX0_never_0 17 rfl rfl)
theorem dX0_never_20 : decode cX0_never 20 = .ok (.if_icmp .gt 22, 3) := dk_163 0 22 (dk_at dksX0_never_0 20 rfl rfl)
theorem dX0_never_23 : decode cX0_never 23 = .ok (.iload_n 1, 1) := dk_27 (dk_at dksX0_never_0 23 rfl rfl)
theorem dX0_never_24 : decode cX0_never 24 = .ok (.aload_n 0, 1) := dk_42 (dk_at dksX0_never_1 0 rfl rfl)
theorem dX0_never_25 : decode cX0_never 25 = .ok (.invokevirtual 153, 3) := dk_182 0 153 (dk_at dksX0_never_1 1 rfl rfl)
theorem dX0_never_28 : decode cX0_never 28 = .ok (.iload_n 2, 1) := dk_28 (dk_at dksX0_never_1 4 rfl rfl)
theorem dX0_never_29 : decode cX0_never 29 = .ok (.invokevirtual 318, 3) := dk_182 1 62 (dk_at dksX0_never_1 5 rfl rfl)
theorem dX0_never_32 : decode cX0_never 32 = .ok (.iconst (-1), 1) := dk_2 (dk_at dksX0_never_1 8 rfl rfl)
theorem dX0_never_33 : decode cX0_never 33 = .ok (.ixor, 1) := dk_130 (dk_at dksX0_never_1 9 rfl rfl)
theorem dX0_never_34 : decode cX0_never 34 = .ok (.iand, 1) := dk_126 (dk_at dksX0_never_1 10 rfl rfl)
theorem dX0_never_35 : decode cX0_never 35 = .ok (.istore_n 1, 1) := dk_60 (dk_at dksX0_never_1 11 rfl rfl)
theorem dX0_never_36 : decode cX0_never 36 = .ok (.iinc 2 1, 3) := dk_132 2 1 (dk_at dksX0_never_1 12 rfl rfl)
theorem dX0_never_39 : decode cX0_never 39 = .ok (.goto (-24), 3) := dk_167 255 232 (dk_at dksX0_never_1 15 rfl rfl)
theorem dX0_never_42 : decode cX0_never 42 = .ok (.iload_n 1, 1) := dk_27 (dk_at dksX0_never_1 18 rfl rfl)
theorem dX0_never_43 : decode cX0_never 43 = .ok (.ireturn, 1) := dk_172 (dk_at dksX0_never_1 19 rfl rfl)
abbrev cX0_outIn : ByteArray := prog_1_method_74_code
def yX0_outIn : MethodName := ⟨RX0, "outIn", "(I)I"⟩
def dkwX0_outIn_1 : List UInt8 := [167, 0, 11, 42, 27, 182, 1, 101, 182, 1, 105, 172]
abbrev dktX0_outIn_1 : List UInt8 := dkwX0_outIn_1 ++ []
def dkwX0_outIn_0 : List UInt8 := [42, 27, 184, 1, 98, 153, 0, 7, 3, 167, 0, 4, 4, 181, 0, 76, 42, 180, 0, 76, 158, 0, 7, 2]
abbrev dktX0_outIn_0 : List UInt8 := dkwX0_outIn_0 ++ dktX0_outIn_1
theorem dksX0_outIn_0 : cX0_outIn.data.toList.drop 0 = dktX0_outIn_0 := by decide +kernel
theorem dksX0_outIn_1 : cX0_outIn.data.toList.drop 24 = dktX0_outIn_1 := dk_seg dksX0_outIn_0 24 rfl rfl
theorem dX0_outIn_0 : decode cX0_outIn 0 = .ok (.aload_n 0, 1) := dk_42 (dk_at dksX0_outIn_0 0 rfl rfl)
theorem dX0_outIn_1 : decode cX0_outIn 1 = .ok (.iload_n 1, 1) := dk_27 (dk_at dksX0_outIn_0 1 rfl rfl)
theorem dX0_outIn_2 : decode cX0_outIn 2 = .ok (.invokestatic 354, 3) := dk_184 1 98 (dk_at dksX0_outIn_0 2 rfl rfl)
theorem dX0_outIn_5 : decode cX0_outIn 5 = .ok (.ifCond .eq 7, 3) := dk_153 0 7 (dk_at dksX0_outIn_0 5 rfl rfl)
theorem dX0_outIn_8 : decode cX0_outIn 8 = .ok (.iconst 0, 1) := dk_3 (dk_at dksX0_outIn_0 8 rfl rfl)
theorem dX0_outIn_9 : decode cX0_outIn 9 = .ok (.goto 4, 3) := dk_167 0 4 (dk_at dksX0_outIn_0 9 rfl rfl)
theorem dX0_outIn_12 : decode cX0_outIn 12 = .ok (.iconst 1, 1) := dk_4 (dk_at dksX0_outIn_0 12 rfl rfl)
theorem dX0_outIn_13 : decode cX0_outIn 13 = .ok (.putfield 76, 3) := dk_181 0 76 (dk_at dksX0_outIn_0 13 rfl rfl)
theorem dX0_outIn_16 : decode cX0_outIn 16 = .ok (.aload_n 0, 1) := dk_42 (dk_at dksX0_outIn_0 16 rfl rfl)
theorem dX0_outIn_17 : decode cX0_outIn 17 = .ok (.getfield 76, 3) := dk_180 0 76 (dk_at dksX0_outIn_0 17 rfl rfl)
theorem dX0_outIn_20 : decode cX0_outIn 20 = .ok (.ifCond .le 7, 3) := dk_158 0 7 (dk_at dksX0_outIn_0 20 rfl rfl)
theorem dX0_outIn_23 : decode cX0_outIn 23 = .ok (.iconst (-1), 1) := dk_2 (dk_at dksX0_outIn_0 23 rfl rfl)
theorem dX0_outIn_24 : decode cX0_outIn 24 = .ok (.goto 11, 3) := dk_167 0 11 (dk_at dksX0_outIn_1 0 rfl rfl)
theorem dX0_outIn_27 : decode cX0_outIn 27 = .ok (.aload_n 0, 1) := dk_42 (dk_at dksX0_outIn_1 3 rfl rfl)
theorem dX0_outIn_28 : decode cX0_outIn 28 = .ok (.iload_n 1, 1) := dk_27 (dk_at dksX0_outIn_1 4 rfl rfl)
theorem dX0_outIn_29 : decode cX0_outIn 29 = .ok (.invokevirtual 357, 3) := dk_182 1 101 (dk_at dksX0_outIn_1 5 rfl rfl)
theorem dX0_outIn_32 : decode cX0_outIn 32 = .ok (.invokevirtual 361, 3) := dk_182 1 105 (dk_at dksX0_outIn_1 8 rfl rfl)
theorem dX0_outIn_35 : decode cX0_outIn 35 = .ok (.ireturn, 1) := dk_172 (dk_at dksX0_outIn_1 11 rfl rfl)
abbrev cX0_isAhead : ByteArray := prog_1_method_73_code
def yX0_isAhead : MethodName := ⟨RX0, "isAhead", "(I)Z"⟩
def dkwX0_isAhead_0 : List UInt8 := [26, 133, 9, 20, 1, 96, 184, 0, 160, 172]
abbrev dktX0_isAhead_0 : List UInt8 := dkwX0_isAhead_0 ++ []
theorem dksX0_isAhead_0 : cX0_isAhead.data.toList.drop 0 = dktX0_isAhead_0 := by decide +kernel
theorem dX0_isAhead_0 : decode cX0_isAhead 0 = .ok (.iload_n 0, 1) := dk_26 (dk_at dksX0_isAhead_0 0 rfl rfl)
theorem dX0_isAhead_1 : decode cX0_isAhead 1 = .ok (.i2l, 1) := dk_133 (dk_at dksX0_isAhead_0 1 rfl rfl)
theorem dX0_isAhead_2 : decode cX0_isAhead 2 = .ok (.lconst 0, 1) := dk_9 (dk_at dksX0_isAhead_0 2 rfl rfl)
theorem dX0_isAhead_3 : decode cX0_isAhead 3 = .ok (.ldc2_w 352, 3) := dk_20 1 96 (dk_at dksX0_isAhead_0 3 rfl rfl)
theorem dX0_isAhead_6 : decode cX0_isAhead 6 = .ok (.invokestatic 160, 3) := dk_184 0 160 (dk_at dksX0_isAhead_0 6 rfl rfl)
theorem dX0_isAhead_9 : decode cX0_isAhead 9 = .ok (.ireturn, 1) := dk_172 (dk_at dksX0_isAhead_0 9 rfl rfl)
abbrev cX0_goesOn : ByteArray := prog_1_method_72_code
def yX0_goesOn : MethodName := ⟨RX0, "goesOn", "(I)LIslandCall$Boat;"⟩
def dkwX0_goesOn_1 : List UInt8 := [182, 1, 30, 87, 132, 2, 1, 167, 255, 240, 42, 180, 0, 66, 176]
abbrev dktX0_goesOn_1 : List UInt8 := dkwX0_goesOn_1 ++ []
def dkwX0_goesOn_0 : List UInt8 := [42, 180, 0, 66, 42, 182, 0, 153, 182, 0, 205, 3, 61, 28, 27, 162, 0, 17, 42, 180, 0, 66]
abbrev dktX0_goesOn_0 : List UInt8 := dkwX0_goesOn_0 ++ dktX0_goesOn_1
theorem dksX0_goesOn_0 : cX0_goesOn.data.toList.drop 0 = dktX0_goesOn_0 := by decide +kernel
theorem dksX0_goesOn_1 : cX0_goesOn.data.toList.drop 22 = dktX0_goesOn_1 := dk_seg dksX0_goesOn_0 22 rfl rfl
theorem dX0_goesOn_0 : decode cX0_goesOn 0 = .ok (.aload_n 0, 1) := dk_42 (dk_at dksX0_goesOn_0 0 rfl rfl)
theorem dX0_goesOn_1 : decode cX0_goesOn 1 = .ok (.getfield 66, 3) := dk_180 0 66 (dk_at dksX0_goesOn_0 1 rfl rfl)
theorem dX0_goesOn_4 : decode cX0_goesOn 4 = .ok (.aload_n 0, 1) := dk_42 (dk_at dksX0_goesOn_0 4 rfl rfl)
theorem dX0_goesOn_5 : decode cX0_goesOn 5 = .ok (.invokevirtual 153, 3) := dk_182 0 153 (dk_at dksX0_goesOn_0 5 rfl rfl)
theorem dX0_goesOn_8 : decode cX0_goesOn 8 = .ok (.invokevirtual 205, 3) := dk_182 0 205 (dk_at dksX0_goesOn_0 8 rfl rfl)
theorem dX0_goesOn_11 : decode cX0_goesOn 11 = .ok (.iconst 0, 1) := dk_3 (dk_at dksX0_goesOn_0 11 rfl rfl)
theorem dX0_goesOn_12 : decode cX0_goesOn 12 = .ok (.istore_n 2, 1) := dk_61 (dk_at dksX0_goesOn_0 12 rfl rfl)
theorem dX0_goesOn_13 : decode cX0_goesOn 13 = .ok (.iload_n 2, 1) := dk_28 (dk_at dksX0_goesOn_0 13 rfl rfl)
theorem dX0_goesOn_14 : decode cX0_goesOn 14 = .ok (.iload_n 1, 1) := dk_27 (dk_at dksX0_goesOn_0 14 rfl rfl)
theorem dX0_goesOn_15 : decode cX0_goesOn 15 = .ok (.if_icmp .ge 17, 3) := dk_162 0 17 (dk_at dksX0_goesOn_0 15 rfl rfl)
theorem dX0_goesOn_18 : decode cX0_goesOn 18 = .ok (.aload_n 0, 1) := dk_42 (dk_at dksX0_goesOn_0 18 rfl rfl)
theorem dX0_goesOn_19 : decode cX0_goesOn 19 = .ok (.getfield 66, 3) := dk_180 0 66 (dk_at dksX0_goesOn_0 19 rfl rfl)
theorem dX0_goesOn_22 : decode cX0_goesOn 22 = .ok (.invokevirtual 286, 3) := dk_182 1 30 (dk_at dksX0_goesOn_1 0 rfl rfl)
theorem dX0_goesOn_25 : decode cX0_goesOn 25 = .ok (.pop, 1) := dk_87 (dk_at dksX0_goesOn_1 3 rfl rfl)
theorem dX0_goesOn_26 : decode cX0_goesOn 26 = .ok (.iinc 2 1, 3) := dk_132 2 1 (dk_at dksX0_goesOn_1 4 rfl rfl)
theorem dX0_goesOn_29 : decode cX0_goesOn 29 = .ok (.goto (-16), 3) := dk_167 255 240 (dk_at dksX0_goesOn_1 7 rfl rfl)
theorem dX0_goesOn_32 : decode cX0_goesOn 32 = .ok (.aload_n 0, 1) := dk_42 (dk_at dksX0_goesOn_1 10 rfl rfl)
theorem dX0_goesOn_33 : decode cX0_goesOn 33 = .ok (.getfield 66, 3) := dk_180 0 66 (dk_at dksX0_goesOn_1 11 rfl rfl)
theorem dX0_goesOn_36 : decode cX0_goesOn 36 = .ok (.areturn, 1) := dk_176 (dk_at dksX0_goesOn_1 14 rfl rfl)
abbrev cX0_outAt : ByteArray := prog_1_method_75_code
def yX0_outAt : MethodName := ⟨RX0, "outAt", "(I)I"⟩
def dkwX0_outAt_2 : List UInt8 := [184, 0, 177, 153, 0, 9, 42, 28, 182, 1, 59, 172, 132, 2, 1, 167, 255, 227, 42, 2, 182, 1, 59, 172]
abbrev dktX0_outAt_2 : List UInt8 := dkwX0_outAt_2 ++ []
def dkwX0_outAt_1 : List UInt8 := [182, 0, 153, 182, 0, 205, 4, 61, 28, 16, 60, 163, 0, 29, 42, 180, 0, 66, 182, 1, 30, 27]
abbrev dktX0_outAt_1 : List UInt8 := dkwX0_outAt_1 ++ dktX0_outAt_2
def dkwX0_outAt_0 : List UInt8 := [42, 42, 27, 182, 1, 87, 181, 0, 76, 42, 180, 0, 76, 158, 0, 5, 2, 172, 42, 180, 0, 66, 42]
abbrev dktX0_outAt_0 : List UInt8 := dkwX0_outAt_0 ++ dktX0_outAt_1
theorem dksX0_outAt_0 : cX0_outAt.data.toList.drop 0 = dktX0_outAt_0 := by decide +kernel
theorem dksX0_outAt_1 : cX0_outAt.data.toList.drop 23 = dktX0_outAt_1 := dk_seg dksX0_outAt_0 23 rfl rfl
theorem dksX0_outAt_2 : cX0_outAt.data.toList.drop 45 = dktX0_outAt_2 := dk_seg dksX0_outAt_1 22 rfl rfl
theorem dX0_outAt_0 : decode cX0_outAt 0 = .ok (.aload_n 0, 1) := dk_42 (dk_at dksX0_outAt_0 0 rfl rfl)
theorem dX0_outAt_1 : decode cX0_outAt 1 = .ok (.aload_n 0, 1) := dk_42 (dk_at dksX0_outAt_0 1 rfl rfl)
theorem dX0_outAt_2 : decode cX0_outAt 2 = .ok (.iload_n 1, 1) := dk_27 (dk_at dksX0_outAt_0 2 rfl rfl)
theorem dX0_outAt_3 : decode cX0_outAt 3 = .ok (.invokevirtual 343, 3) := dk_182 1 87 (dk_at dksX0_outAt_0 3 rfl rfl)
theorem dX0_outAt_6 : decode cX0_outAt 6 = .ok (.putfield 76, 3) := dk_181 0 76 (dk_at dksX0_outAt_0 6 rfl rfl)
theorem dX0_outAt_9 : decode cX0_outAt 9 = .ok (.aload_n 0, 1) := dk_42 (dk_at dksX0_outAt_0 9 rfl rfl)
theorem dX0_outAt_10 : decode cX0_outAt 10 = .ok (.getfield 76, 3) := dk_180 0 76 (dk_at dksX0_outAt_0 10 rfl rfl)
theorem dX0_outAt_13 : decode cX0_outAt 13 = .ok (.ifCond .le 5, 3) := dk_158 0 5 (dk_at dksX0_outAt_0 13 rfl rfl)
theorem dX0_outAt_16 : decode cX0_outAt 16 = .ok (.iconst (-1), 1) := dk_2 (dk_at dksX0_outAt_0 16 rfl rfl)
theorem dX0_outAt_17 : decode cX0_outAt 17 = .ok (.ireturn, 1) := dk_172 (dk_at dksX0_outAt_0 17 rfl rfl)
theorem dX0_outAt_18 : decode cX0_outAt 18 = .ok (.aload_n 0, 1) := dk_42 (dk_at dksX0_outAt_0 18 rfl rfl)
theorem dX0_outAt_19 : decode cX0_outAt 19 = .ok (.getfield 66, 3) := dk_180 0 66 (dk_at dksX0_outAt_0 19 rfl rfl)
theorem dX0_outAt_22 : decode cX0_outAt 22 = .ok (.aload_n 0, 1) := dk_42 (dk_at dksX0_outAt_0 22 rfl rfl)
theorem dX0_outAt_23 : decode cX0_outAt 23 = .ok (.invokevirtual 153, 3) := dk_182 0 153 (dk_at dksX0_outAt_1 0 rfl rfl)
theorem dX0_outAt_26 : decode cX0_outAt 26 = .ok (.invokevirtual 205, 3) := dk_182 0 205 (dk_at dksX0_outAt_1 3 rfl rfl)
theorem dX0_outAt_29 : decode cX0_outAt 29 = .ok (.iconst 1, 1) := dk_4 (dk_at dksX0_outAt_1 6 rfl rfl)
theorem dX0_outAt_30 : decode cX0_outAt 30 = .ok (.istore_n 2, 1) := dk_61 (dk_at dksX0_outAt_1 7 rfl rfl)
theorem dX0_outAt_31 : decode cX0_outAt 31 = .ok (.iload_n 2, 1) := dk_28 (dk_at dksX0_outAt_1 8 rfl rfl)
theorem dX0_outAt_32 : decode cX0_outAt 32 = .ok (.bipush 60, 2) := dk_16 60 (dk_at dksX0_outAt_1 9 rfl rfl)
theorem dX0_outAt_34 : decode cX0_outAt 34 = .ok (.if_icmp .gt 29, 3) := dk_163 0 29 (dk_at dksX0_outAt_1 11 rfl rfl)
theorem dX0_outAt_37 : decode cX0_outAt 37 = .ok (.aload_n 0, 1) := dk_42 (dk_at dksX0_outAt_1 14 rfl rfl)
theorem dX0_outAt_38 : decode cX0_outAt 38 = .ok (.getfield 66, 3) := dk_180 0 66 (dk_at dksX0_outAt_1 15 rfl rfl)
theorem dX0_outAt_41 : decode cX0_outAt 41 = .ok (.invokevirtual 286, 3) := dk_182 1 30 (dk_at dksX0_outAt_1 18 rfl rfl)
theorem dX0_outAt_44 : decode cX0_outAt 44 = .ok (.iload_n 1, 1) := dk_27 (dk_at dksX0_outAt_1 21 rfl rfl)
theorem dX0_outAt_45 : decode cX0_outAt 45 = .ok (.invokestatic 177, 3) := dk_184 0 177 (dk_at dksX0_outAt_2 0 rfl rfl)
theorem dX0_outAt_48 : decode cX0_outAt 48 = .ok (.ifCond .eq 9, 3) := dk_153 0 9 (dk_at dksX0_outAt_2 3 rfl rfl)
theorem dX0_outAt_51 : decode cX0_outAt 51 = .ok (.aload_n 0, 1) := dk_42 (dk_at dksX0_outAt_2 6 rfl rfl)
theorem dX0_outAt_52 : decode cX0_outAt 52 = .ok (.iload_n 2, 1) := dk_28 (dk_at dksX0_outAt_2 7 rfl rfl)
theorem dX0_outAt_53 : decode cX0_outAt 53 = .ok (.invokevirtual 315, 3) := dk_182 1 59 (dk_at dksX0_outAt_2 8 rfl rfl)
theorem dX0_outAt_56 : decode cX0_outAt 56 = .ok (.ireturn, 1) := dk_172 (dk_at dksX0_outAt_2 11 rfl rfl)
theorem dX0_outAt_57 : decode cX0_outAt 57 = .ok (.iinc 2 1, 3) := dk_132 2 1 (dk_at dksX0_outAt_2 12 rfl rfl)
theorem dX0_outAt_60 : decode cX0_outAt 60 = .ok (.goto (-29), 3) := dk_167 255 227 (dk_at dksX0_outAt_2 15 rfl rfl)
theorem dX0_outAt_63 : decode cX0_outAt 63 = .ok (.aload_n 0, 1) := dk_42 (dk_at dksX0_outAt_2 18 rfl rfl)
theorem dX0_outAt_64 : decode cX0_outAt 64 = .ok (.iconst (-1), 1) := dk_2 (dk_at dksX0_outAt_2 19 rfl rfl)
theorem dX0_outAt_65 : decode cX0_outAt 65 = .ok (.invokevirtual 315, 3) := dk_182 1 59 (dk_at dksX0_outAt_2 20 rfl rfl)
theorem dX0_outAt_68 : decode cX0_outAt 68 = .ok (.ireturn, 1) := dk_172 (dk_at dksX0_outAt_2 23 rfl rfl)
abbrev cX0_holdIn : ByteArray := prog_1_method_76_code
def yX0_holdIn : MethodName := ⟨RX0, "holdIn", "(II)I"⟩
def dkwX0_holdIn_1 : List UInt8 := [42, 180, 0, 76, 158, 0, 7, 2, 167, 0, 13, 42, 28, 182, 1, 101, 180, 1, 14, 27, 46, 172]
abbrev dktX0_holdIn_1 : List UInt8 := dkwX0_holdIn_1 ++ []
def dkwX0_holdIn_0 : List UInt8 := [42, 42, 27, 182, 1, 9, 153, 0, 14, 28, 184, 1, 98, 153, 0, 7, 3, 167, 0, 4, 4, 181, 0, 76]
abbrev dktX0_holdIn_0 : List UInt8 := dkwX0_holdIn_0 ++ dktX0_holdIn_1
theorem dksX0_holdIn_0 : cX0_holdIn.data.toList.drop 0 = dktX0_holdIn_0 := by decide +kernel
theorem dksX0_holdIn_1 : cX0_holdIn.data.toList.drop 24 = dktX0_holdIn_1 := dk_seg dksX0_holdIn_0 24 rfl rfl
theorem dX0_holdIn_0 : decode cX0_holdIn 0 = .ok (.aload_n 0, 1) := dk_42 (dk_at dksX0_holdIn_0 0 rfl rfl)
theorem dX0_holdIn_1 : decode cX0_holdIn 1 = .ok (.aload_n 0, 1) := dk_42 (dk_at dksX0_holdIn_0 1 rfl rfl)
theorem dX0_holdIn_2 : decode cX0_holdIn 2 = .ok (.iload_n 1, 1) := dk_27 (dk_at dksX0_holdIn_0 2 rfl rfl)
theorem dX0_holdIn_3 : decode cX0_holdIn 3 = .ok (.invokevirtual 265, 3) := dk_182 1 9 (dk_at dksX0_holdIn_0 3 rfl rfl)
theorem dX0_holdIn_6 : decode cX0_holdIn 6 = .ok (.ifCond .eq 14, 3) := dk_153 0 14 (dk_at dksX0_holdIn_0 6 rfl rfl)
theorem dX0_holdIn_9 : decode cX0_holdIn 9 = .ok (.iload_n 2, 1) := dk_28 (dk_at dksX0_holdIn_0 9 rfl rfl)
theorem dX0_holdIn_10 : decode cX0_holdIn 10 = .ok (.invokestatic 354, 3) := dk_184 1 98 (dk_at dksX0_holdIn_0 10 rfl rfl)
theorem dX0_holdIn_13 : decode cX0_holdIn 13 = .ok (.ifCond .eq 7, 3) := dk_153 0 7 (dk_at dksX0_holdIn_0 13 rfl rfl)
theorem dX0_holdIn_16 : decode cX0_holdIn 16 = .ok (.iconst 0, 1) := dk_3 (dk_at dksX0_holdIn_0 16 rfl rfl)
theorem dX0_holdIn_17 : decode cX0_holdIn 17 = .ok (.goto 4, 3) := dk_167 0 4 (dk_at dksX0_holdIn_0 17 rfl rfl)
theorem dX0_holdIn_20 : decode cX0_holdIn 20 = .ok (.iconst 1, 1) := dk_4 (dk_at dksX0_holdIn_0 20 rfl rfl)
theorem dX0_holdIn_21 : decode cX0_holdIn 21 = .ok (.putfield 76, 3) := dk_181 0 76 (dk_at dksX0_holdIn_0 21 rfl rfl)
theorem dX0_holdIn_24 : decode cX0_holdIn 24 = .ok (.aload_n 0, 1) := dk_42 (dk_at dksX0_holdIn_1 0 rfl rfl)
theorem dX0_holdIn_25 : decode cX0_holdIn 25 = .ok (.getfield 76, 3) := dk_180 0 76 (dk_at dksX0_holdIn_1 1 rfl rfl)
theorem dX0_holdIn_28 : decode cX0_holdIn 28 = .ok (.ifCond .le 7, 3) := dk_158 0 7 (dk_at dksX0_holdIn_1 4 rfl rfl)
theorem dX0_holdIn_31 : decode cX0_holdIn 31 = .ok (.iconst (-1), 1) := dk_2 (dk_at dksX0_holdIn_1 7 rfl rfl)
theorem dX0_holdIn_32 : decode cX0_holdIn 32 = .ok (.goto 13, 3) := dk_167 0 13 (dk_at dksX0_holdIn_1 8 rfl rfl)
theorem dX0_holdIn_35 : decode cX0_holdIn 35 = .ok (.aload_n 0, 1) := dk_42 (dk_at dksX0_holdIn_1 11 rfl rfl)
theorem dX0_holdIn_36 : decode cX0_holdIn 36 = .ok (.iload_n 2, 1) := dk_28 (dk_at dksX0_holdIn_1 12 rfl rfl)
theorem dX0_holdIn_37 : decode cX0_holdIn 37 = .ok (.invokevirtual 357, 3) := dk_182 1 101 (dk_at dksX0_holdIn_1 13 rfl rfl)
theorem dX0_holdIn_40 : decode cX0_holdIn 40 = .ok (.getfield 270, 3) := dk_180 1 14 (dk_at dksX0_holdIn_1 16 rfl rfl)
theorem dX0_holdIn_43 : decode cX0_holdIn 43 = .ok (.iload_n 1, 1) := dk_27 (dk_at dksX0_holdIn_1 19 rfl rfl)
theorem dX0_holdIn_44 : decode cX0_holdIn 44 = .ok (.iaload, 1) := dk_46 (dk_at dksX0_holdIn_1 20 rfl rfl)
theorem dX0_holdIn_45 : decode cX0_holdIn 45 = .ok (.ireturn, 1) := dk_172 (dk_at dksX0_holdIn_1 21 rfl rfl)
abbrev cX0_fits : ByteArray := prog_1_method_78_code
def yX0_fits : MethodName := ⟨RX0, "fits", "(III)I"⟩
def dkwX0_fits_1 : List UInt8 := [172]
abbrev dktX0_fits_1 : List UInt8 := dkwX0_fits_1 ++ []
def dkwX0_fits_0 : List UInt8 := [42, 3, 181, 0, 76, 42, 27, 28, 29, 182, 1, 117, 184, 1, 33, 172, 58, 4, 42, 25, 4, 182, 0, 134]
abbrev dktX0_fits_0 : List UInt8 := dkwX0_fits_0 ++ dktX0_fits_1
theorem dksX0_fits_0 : cX0_fits.data.toList.drop 0 = dktX0_fits_0 := by decide +kernel
theorem dksX0_fits_1 : cX0_fits.data.toList.drop 24 = dktX0_fits_1 := dk_seg dksX0_fits_0 24 rfl rfl
theorem dX0_fits_0 : decode cX0_fits 0 = .ok (.aload_n 0, 1) := dk_42 (dk_at dksX0_fits_0 0 rfl rfl)
theorem dX0_fits_1 : decode cX0_fits 1 = .ok (.iconst 0, 1) := dk_3 (dk_at dksX0_fits_0 1 rfl rfl)
theorem dX0_fits_2 : decode cX0_fits 2 = .ok (.putfield 76, 3) := dk_181 0 76 (dk_at dksX0_fits_0 2 rfl rfl)
theorem dX0_fits_5 : decode cX0_fits 5 = .ok (.aload_n 0, 1) := dk_42 (dk_at dksX0_fits_0 5 rfl rfl)
theorem dX0_fits_6 : decode cX0_fits 6 = .ok (.iload_n 1, 1) := dk_27 (dk_at dksX0_fits_0 6 rfl rfl)
theorem dX0_fits_7 : decode cX0_fits 7 = .ok (.iload_n 2, 1) := dk_28 (dk_at dksX0_fits_0 7 rfl rfl)
theorem dX0_fits_8 : decode cX0_fits 8 = .ok (.iload_n 3, 1) := dk_29 (dk_at dksX0_fits_0 8 rfl rfl)
theorem dX0_fits_9 : decode cX0_fits 9 = .ok (.invokevirtual 373, 3) := dk_182 1 117 (dk_at dksX0_fits_0 9 rfl rfl)
theorem dX0_fits_12 : decode cX0_fits 12 = .ok (.invokestatic 289, 3) := dk_184 1 33 (dk_at dksX0_fits_0 12 rfl rfl)
theorem dX0_fits_15 : decode cX0_fits 15 = .ok (.ireturn, 1) := dk_172 (dk_at dksX0_fits_0 15 rfl rfl)
theorem dX0_fits_16 : decode cX0_fits 16 = .ok (.astore 4, 2) := dk_58 4 (dk_at dksX0_fits_0 16 rfl rfl)
theorem dX0_fits_18 : decode cX0_fits 18 = .ok (.aload_n 0, 1) := dk_42 (dk_at dksX0_fits_0 18 rfl rfl)
theorem dX0_fits_19 : decode cX0_fits 19 = .ok (.aload 4, 2) := dk_25 4 (dk_at dksX0_fits_0 19 rfl rfl)
theorem dX0_fits_21 : decode cX0_fits 21 = .ok (.invokevirtual 134, 3) := dk_182 0 134 (dk_at dksX0_fits_0 21 rfl rfl)
theorem dX0_fits_24 : decode cX0_fits 24 = .ok (.ireturn, 1) := dk_172 (dk_at dksX0_fits_1 0 rfl rfl)
abbrev cX0_fitting : ByteArray := prog_1_method_77_code
def yX0_fitting : MethodName := ⟨RX0, "fitting", "(III)I"⟩
def dkwX0_fitting_11 : List UInt8 := [167, 0, 4, 3, 128, 54, 5, 132, 6, 1, 167, 255, 129, 21, 5, 172]
abbrev dktX0_fitting_11 : List UInt8 := dkwX0_fitting_11 ++ []
def dkwX0_fitting_10 : List UInt8 := [167, 0, 4, 3, 54, 7, 132, 8, 1, 167, 255, 166, 21, 5, 21, 7, 153, 0, 10, 4, 21, 6, 120]
abbrev dktX0_fitting_10 : List UInt8 := dkwX0_fitting_10 ++ dktX0_fitting_11
def dkwX0_fitting_9 : List UInt8 := [161, 0, 7, 4, 167, 0, 4, 3, 54, 10, 21, 10, 21, 9, 27, 184, 0, 177, 160, 0, 7, 4]
abbrev dktX0_fitting_9 : List UInt8 := dkwX0_fitting_9 ++ dktX0_fitting_10
def dkwX0_fitting_8 : List UInt8 := [184, 1, 33, 42, 182, 0, 153, 27, 21, 6, 25, 4, 5, 21, 8, 104, 184, 0, 128, 136, 182, 1, 113]
abbrev dktX0_fitting_8 : List UInt8 := dkwX0_fitting_8 ++ dktX0_fitting_9
def dkwX0_fitting_7 : List UInt8 := [21, 8, 104, 4, 96, 184, 0, 128, 136, 54, 9, 42, 182, 0, 153, 27, 182, 1, 6, 21, 9, 126]
abbrev dktX0_fitting_7 : List UInt8 := dkwX0_fitting_7 ++ dktX0_fitting_8
def dkwX0_fitting_6 : List UInt8 := [163, 0, 126, 4, 54, 7, 3, 54, 8, 21, 8, 29, 162, 0, 90, 21, 7, 153, 0, 85, 25, 4, 5]
abbrev dktX0_fitting_6 : List UInt8 := dkwX0_fitting_6 ++ dktX0_fitting_7
def dkwX0_fitting_5 : List UInt8 := [167, 0, 4, 3, 8, 182, 0, 101, 132, 5, 1, 167, 255, 203, 3, 54, 5, 3, 54, 6, 21, 6, 16, 9]
abbrev dktX0_fitting_5 : List UInt8 := dkwX0_fitting_5 ++ dktX0_fitting_6
def dkwX0_fitting_4 : List UInt8 := [153, 0, 25, 42, 25, 4, 5, 21, 5, 104, 4, 96, 184, 0, 128, 182, 1, 71, 153, 0, 7, 4]
abbrev dktX0_fitting_4 : List UInt8 := dkwX0_fitting_4 ++ dktX0_fitting_5
def dkwX0_fitting_3 : List UInt8 := [54, 5, 21, 5, 29, 162, 0, 53, 42, 42, 25, 4, 5, 21, 5, 104, 184, 0, 128, 182, 1, 52]
abbrev dktX0_fitting_3 : List UInt8 := dkwX0_fitting_3 ++ dktX0_fitting_4
def dkwX0_fitting_2 : List UInt8 := [58, 4, 42, 25, 4, 184, 1, 110, 5, 29, 104, 161, 0, 7, 4, 167, 0, 4, 3, 6, 182, 0, 101, 3]
abbrev dktX0_fitting_2 : List UInt8 := dkwX0_fitting_2 ++ dktX0_fitting_3
def dkwX0_fitting_1 : List UInt8 := [20, 1, 48, 184, 0, 160, 153, 0, 7, 4, 167, 0, 4, 3, 4, 182, 0, 101, 42, 28, 182, 0, 118]
abbrev dktX0_fitting_1 : List UInt8 := dkwX0_fitting_1 ++ dktX0_fitting_2
def dkwX0_fitting_0 : List UInt8 := [42, 42, 27, 182, 1, 9, 153, 0, 31, 29, 133, 9, 20, 1, 108, 184, 0, 160, 153, 0, 19, 28, 133, 9]
abbrev dktX0_fitting_0 : List UInt8 := dkwX0_fitting_0 ++ dktX0_fitting_1
theorem dksX0_fitting_0 : cX0_fitting.data.toList.drop 0 = dktX0_fitting_0 := by decide +kernel
theorem dksX0_fitting_1 : cX0_fitting.data.toList.drop 24 = dktX0_fitting_1 := dk_seg dksX0_fitting_0 24 rfl rfl
theorem dksX0_fitting_2 : cX0_fitting.data.toList.drop 47 = dktX0_fitting_2 := dk_seg dksX0_fitting_1 23 rfl rfl
theorem dksX0_fitting_3 : cX0_fitting.data.toList.drop 71 = dktX0_fitting_3 := dk_seg dksX0_fitting_2 24 rfl rfl
theorem dksX0_fitting_4 : cX0_fitting.data.toList.drop 93 = dktX0_fitting_4 := dk_seg dksX0_fitting_3 22 rfl rfl
theorem dksX0_fitting_5 : cX0_fitting.data.toList.drop 115 = dktX0_fitting_5 := dk_seg dksX0_fitting_4 22 rfl rfl
theorem dksX0_fitting_6 : cX0_fitting.data.toList.drop 139 = dktX0_fitting_6 := dk_seg dksX0_fitting_5 24 rfl rfl
theorem dksX0_fitting_7 : cX0_fitting.data.toList.drop 162 = dktX0_fitting_7 := dk_seg dksX0_fitting_6 23 rfl rfl
theorem dksX0_fitting_8 : cX0_fitting.data.toList.drop 184 = dktX0_fitting_8 := dk_seg dksX0_fitting_7 22 rfl rfl
theorem dksX0_fitting_9 : cX0_fitting.data.toList.drop 207 = dktX0_fitting_9 := dk_seg dksX0_fitting_8 23 rfl rfl
theorem dksX0_fitting_10 : cX0_fitting.data.toList.drop 229 = dktX0_fitting_10 := dk_seg dksX0_fitting_9 22 rfl rfl
theorem dksX0_fitting_11 : cX0_fitting.data.toList.drop 252 = dktX0_fitting_11 := dk_seg dksX0_fitting_10 23 rfl rfl
theorem dX0_fitting_0 : decode cX0_fitting 0 = .ok (.aload_n 0, 1) := dk_42 (dk_at dksX0_fitting_0 0 rfl rfl)
theorem dX0_fitting_1 : decode cX0_fitting 1 = .ok (.aload_n 0, 1) := dk_42 (dk_at dksX0_fitting_0 1 rfl rfl)
theorem dX0_fitting_2 : decode cX0_fitting 2 = .ok (.iload_n 1, 1) := dk_27 (dk_at dksX0_fitting_0 2 rfl rfl)
theorem dX0_fitting_3 : decode cX0_fitting 3 = .ok (.invokevirtual 265, 3) := dk_182 1 9 (dk_at dksX0_fitting_0 3 rfl rfl)
theorem dX0_fitting_6 : decode cX0_fitting 6 = .ok (.ifCond .eq 31, 3) := dk_153 0 31 (dk_at dksX0_fitting_0 6 rfl rfl)
theorem dX0_fitting_9 : decode cX0_fitting 9 = .ok (.iload_n 3, 1) := dk_29 (dk_at dksX0_fitting_0 9 rfl rfl)
theorem dX0_fitting_10 : decode cX0_fitting 10 = .ok (.i2l, 1) := dk_133 (dk_at dksX0_fitting_0 10 rfl rfl)
theorem dX0_fitting_11 : decode cX0_fitting 11 = .ok (.lconst 0, 1) := dk_9 (dk_at dksX0_fitting_0 11 rfl rfl)
theorem dX0_fitting_12 : decode cX0_fitting 12 = .ok (.ldc2_w 364, 3) := dk_20 1 108 (dk_at dksX0_fitting_0 12 rfl rfl)
theorem dX0_fitting_15 : decode cX0_fitting 15 = .ok (.invokestatic 160, 3) := dk_184 0 160 (dk_at dksX0_fitting_0 15 rfl rfl)
theorem dX0_fitting_18 : decode cX0_fitting 18 = .ok (.ifCond .eq 19, 3) := dk_153 0 19 (dk_at dksX0_fitting_0 18 rfl rfl)
theorem dX0_fitting_21 : decode cX0_fitting 21 = .ok (.iload_n 2, 1) := dk_28 (dk_at dksX0_fitting_0 21 rfl rfl)
theorem dX0_fitting_22 : decode cX0_fitting 22 = .ok (.i2l, 1) := dk_133 (dk_at dksX0_fitting_0 22 rfl rfl)
theorem dX0_fitting_23 : decode cX0_fitting 23 = .ok (.lconst 0, 1) := dk_9 (dk_at dksX0_fitting_0 23 rfl rfl)
theorem dX0_fitting_24 : decode cX0_fitting 24 = .ok (.ldc2_w 304, 3) := dk_20 1 48 (dk_at dksX0_fitting_1 0 rfl rfl)
theorem dX0_fitting_27 : decode cX0_fitting 27 = .ok (.invokestatic 160, 3) := dk_184 0 160 (dk_at dksX0_fitting_1 3 rfl rfl)
theorem dX0_fitting_30 : decode cX0_fitting 30 = .ok (.ifCond .eq 7, 3) := dk_153 0 7 (dk_at dksX0_fitting_1 6 rfl rfl)
theorem dX0_fitting_33 : decode cX0_fitting 33 = .ok (.iconst 1, 1) := dk_4 (dk_at dksX0_fitting_1 9 rfl rfl)
theorem dX0_fitting_34 : decode cX0_fitting 34 = .ok (.goto 4, 3) := dk_167 0 4 (dk_at dksX0_fitting_1 10 rfl rfl)
theorem dX0_fitting_37 : decode cX0_fitting 37 = .ok (.iconst 0, 1) := dk_3 (dk_at dksX0_fitting_1 13 rfl rfl)
theorem dX0_fitting_38 : decode cX0_fitting 38 = .ok (.iconst 1, 1) := dk_4 (dk_at dksX0_fitting_1 14 rfl rfl)
theorem dX0_fitting_39 : decode cX0_fitting 39 = .ok (.invokevirtual 101, 3) := dk_182 0 101 (dk_at dksX0_fitting_1 15 rfl rfl)
theorem dX0_fitting_42 : decode cX0_fitting 42 = .ok (.aload_n 0, 1) := dk_42 (dk_at dksX0_fitting_1 18 rfl rfl)
theorem dX0_fitting_43 : decode cX0_fitting 43 = .ok (.iload_n 2, 1) := dk_28 (dk_at dksX0_fitting_1 19 rfl rfl)
theorem dX0_fitting_44 : decode cX0_fitting 44 = .ok (.invokevirtual 118, 3) := dk_182 0 118 (dk_at dksX0_fitting_1 20 rfl rfl)
theorem dX0_fitting_47 : decode cX0_fitting 47 = .ok (.astore 4, 2) := dk_58 4 (dk_at dksX0_fitting_2 0 rfl rfl)
theorem dX0_fitting_49 : decode cX0_fitting 49 = .ok (.aload_n 0, 1) := dk_42 (dk_at dksX0_fitting_2 2 rfl rfl)
theorem dX0_fitting_50 : decode cX0_fitting 50 = .ok (.aload 4, 2) := dk_25 4 (dk_at dksX0_fitting_2 3 rfl rfl)
theorem dX0_fitting_52 : decode cX0_fitting 52 = .ok (.invokestatic 366, 3) := dk_184 1 110 (dk_at dksX0_fitting_2 5 rfl rfl)
theorem dX0_fitting_55 : decode cX0_fitting 55 = .ok (.iconst 2, 1) := dk_5 (dk_at dksX0_fitting_2 8 rfl rfl)
theorem dX0_fitting_56 : decode cX0_fitting 56 = .ok (.iload_n 3, 1) := dk_29 (dk_at dksX0_fitting_2 9 rfl rfl)
theorem dX0_fitting_57 : decode cX0_fitting 57 = .ok (.imul, 1) := dk_104 (dk_at dksX0_fitting_2 10 rfl rfl)
theorem dX0_fitting_58 : decode cX0_fitting 58 = .ok (.if_icmp .lt 7, 3) := dk_161 0 7 (dk_at dksX0_fitting_2 11 rfl rfl)
theorem dX0_fitting_61 : decode cX0_fitting 61 = .ok (.iconst 1, 1) := dk_4 (dk_at dksX0_fitting_2 14 rfl rfl)
theorem dX0_fitting_62 : decode cX0_fitting 62 = .ok (.goto 4, 3) := dk_167 0 4 (dk_at dksX0_fitting_2 15 rfl rfl)
theorem dX0_fitting_65 : decode cX0_fitting 65 = .ok (.iconst 0, 1) := dk_3 (dk_at dksX0_fitting_2 18 rfl rfl)
theorem dX0_fitting_66 : decode cX0_fitting 66 = .ok (.iconst 3, 1) := dk_6 (dk_at dksX0_fitting_2 19 rfl rfl)
theorem dX0_fitting_67 : decode cX0_fitting 67 = .ok (.invokevirtual 101, 3) := dk_182 0 101 (dk_at dksX0_fitting_2 20 rfl rfl)
theorem dX0_fitting_70 : decode cX0_fitting 70 = .ok (.iconst 0, 1) := dk_3 (dk_at dksX0_fitting_2 23 rfl rfl)
theorem dX0_fitting_71 : decode cX0_fitting 71 = .ok (.istore 5, 2) := dk_54 5 (dk_at dksX0_fitting_3 0 rfl rfl)
theorem dX0_fitting_73 : decode cX0_fitting 73 = .ok (.iload 5, 2) := dk_21 5 (dk_at dksX0_fitting_3 2 rfl rfl)
theorem dX0_fitting_75 : decode cX0_fitting 75 = .ok (.iload_n 3, 1) := dk_29 (dk_at dksX0_fitting_3 4 rfl rfl)
theorem dX0_fitting_76 : decode cX0_fitting 76 = .ok (.if_icmp .ge 53, 3) := dk_162 0 53 (dk_at dksX0_fitting_3 5 rfl rfl)
theorem dX0_fitting_79 : decode cX0_fitting 79 = .ok (.aload_n 0, 1) := dk_42 (dk_at dksX0_fitting_3 8 rfl rfl)
theorem dX0_fitting_80 : decode cX0_fitting 80 = .ok (.aload_n 0, 1) := dk_42 (dk_at dksX0_fitting_3 9 rfl rfl)
theorem dX0_fitting_81 : decode cX0_fitting 81 = .ok (.aload 4, 2) := dk_25 4 (dk_at dksX0_fitting_3 10 rfl rfl)
theorem dX0_fitting_83 : decode cX0_fitting 83 = .ok (.iconst 2, 1) := dk_5 (dk_at dksX0_fitting_3 12 rfl rfl)
theorem dX0_fitting_84 : decode cX0_fitting 84 = .ok (.iload 5, 2) := dk_21 5 (dk_at dksX0_fitting_3 13 rfl rfl)
theorem dX0_fitting_86 : decode cX0_fitting 86 = .ok (.imul, 1) := dk_104 (dk_at dksX0_fitting_3 15 rfl rfl)
theorem dX0_fitting_87 : decode cX0_fitting 87 = .ok (.invokestatic 128, 3) := dk_184 0 128 (dk_at dksX0_fitting_3 16 rfl rfl)
theorem dX0_fitting_90 : decode cX0_fitting 90 = .ok (.invokevirtual 308, 3) := dk_182 1 52 (dk_at dksX0_fitting_3 19 rfl rfl)
theorem dX0_fitting_93 : decode cX0_fitting 93 = .ok (.ifCond .eq 25, 3) := dk_153 0 25 (dk_at dksX0_fitting_4 0 rfl rfl)
theorem dX0_fitting_96 : decode cX0_fitting 96 = .ok (.aload_n 0, 1) := dk_42 (dk_at dksX0_fitting_4 3 rfl rfl)
theorem dX0_fitting_97 : decode cX0_fitting 97 = .ok (.aload 4, 2) := dk_25 4 (dk_at dksX0_fitting_4 4 rfl rfl)
theorem dX0_fitting_99 : decode cX0_fitting 99 = .ok (.iconst 2, 1) := dk_5 (dk_at dksX0_fitting_4 6 rfl rfl)
theorem dX0_fitting_100 : decode cX0_fitting 100 = .ok (.iload 5, 2) := dk_21 5 (dk_at dksX0_fitting_4 7 rfl rfl)
theorem dX0_fitting_102 : decode cX0_fitting 102 = .ok (.imul, 1) := dk_104 (dk_at dksX0_fitting_4 9 rfl rfl)
theorem dX0_fitting_103 : decode cX0_fitting 103 = .ok (.iconst 1, 1) := dk_4 (dk_at dksX0_fitting_4 10 rfl rfl)
theorem dX0_fitting_104 : decode cX0_fitting 104 = .ok (.iadd, 1) := dk_96 (dk_at dksX0_fitting_4 11 rfl rfl)
theorem dX0_fitting_105 : decode cX0_fitting 105 = .ok (.invokestatic 128, 3) := dk_184 0 128 (dk_at dksX0_fitting_4 12 rfl rfl)
theorem dX0_fitting_108 : decode cX0_fitting 108 = .ok (.invokevirtual 327, 3) := dk_182 1 71 (dk_at dksX0_fitting_4 15 rfl rfl)
theorem dX0_fitting_111 : decode cX0_fitting 111 = .ok (.ifCond .eq 7, 3) := dk_153 0 7 (dk_at dksX0_fitting_4 18 rfl rfl)
theorem dX0_fitting_114 : decode cX0_fitting 114 = .ok (.iconst 1, 1) := dk_4 (dk_at dksX0_fitting_4 21 rfl rfl)
theorem dX0_fitting_115 : decode cX0_fitting 115 = .ok (.goto 4, 3) := dk_167 0 4 (dk_at dksX0_fitting_5 0 rfl rfl)
theorem dX0_fitting_118 : decode cX0_fitting 118 = .ok (.iconst 0, 1) := dk_3 (dk_at dksX0_fitting_5 3 rfl rfl)
theorem dX0_fitting_119 : decode cX0_fitting 119 = .ok (.iconst 5, 1) := dk_8 (dk_at dksX0_fitting_5 4 rfl rfl)
theorem dX0_fitting_120 : decode cX0_fitting 120 = .ok (.invokevirtual 101, 3) := dk_182 0 101 (dk_at dksX0_fitting_5 5 rfl rfl)
theorem dX0_fitting_123 : decode cX0_fitting 123 = .ok (.iinc 5 1, 3) := dk_132 5 1 (dk_at dksX0_fitting_5 8 rfl rfl)
theorem dX0_fitting_126 : decode cX0_fitting 126 = .ok (.goto (-53), 3) := dk_167 255 203 (dk_at dksX0_fitting_5 11 rfl rfl)
theorem dX0_fitting_129 : decode cX0_fitting 129 = .ok (.iconst 0, 1) := dk_3 (dk_at dksX0_fitting_5 14 rfl rfl)
theorem dX0_fitting_130 : decode cX0_fitting 130 = .ok (.istore 5, 2) := dk_54 5 (dk_at dksX0_fitting_5 15 rfl rfl)
theorem dX0_fitting_132 : decode cX0_fitting 132 = .ok (.iconst 0, 1) := dk_3 (dk_at dksX0_fitting_5 17 rfl rfl)
theorem dX0_fitting_133 : decode cX0_fitting 133 = .ok (.istore 6, 2) := dk_54 6 (dk_at dksX0_fitting_5 18 rfl rfl)
theorem dX0_fitting_135 : decode cX0_fitting 135 = .ok (.iload 6, 2) := dk_21 6 (dk_at dksX0_fitting_5 20 rfl rfl)
theorem dX0_fitting_137 : decode cX0_fitting 137 = .ok (.bipush 9, 2) := dk_16 9 (dk_at dksX0_fitting_5 22 rfl rfl)
theorem dX0_fitting_139 : decode cX0_fitting 139 = .ok (.if_icmp .gt 126, 3) := dk_163 0 126 (dk_at dksX0_fitting_6 0 rfl rfl)
theorem dX0_fitting_142 : decode cX0_fitting 142 = .ok (.iconst 1, 1) := dk_4 (dk_at dksX0_fitting_6 3 rfl rfl)
theorem dX0_fitting_143 : decode cX0_fitting 143 = .ok (.istore 7, 2) := dk_54 7 (dk_at dksX0_fitting_6 4 rfl rfl)
theorem dX0_fitting_145 : decode cX0_fitting 145 = .ok (.iconst 0, 1) := dk_3 (dk_at dksX0_fitting_6 6 rfl rfl)
theorem dX0_fitting_146 : decode cX0_fitting 146 = .ok (.istore 8, 2) := dk_54 8 (dk_at dksX0_fitting_6 7 rfl rfl)
theorem dX0_fitting_148 : decode cX0_fitting 148 = .ok (.iload 8, 2) := dk_21 8 (dk_at dksX0_fitting_6 9 rfl rfl)
theorem dX0_fitting_150 : decode cX0_fitting 150 = .ok (.iload_n 3, 1) := dk_29 (dk_at dksX0_fitting_6 11 rfl rfl)
theorem dX0_fitting_151 : decode cX0_fitting 151 = .ok (.if_icmp .ge 90, 3) := dk_162 0 90 (dk_at dksX0_fitting_6 12 rfl rfl)
theorem dX0_fitting_154 : decode cX0_fitting 154 = .ok (.iload 7, 2) := dk_21 7 (dk_at dksX0_fitting_6 15 rfl rfl)
theorem dX0_fitting_156 : decode cX0_fitting 156 = .ok (.ifCond .eq 85, 3) := dk_153 0 85 (dk_at dksX0_fitting_6 17 rfl rfl)
theorem dX0_fitting_159 : decode cX0_fitting 159 = .ok (.aload 4, 2) := dk_25 4 (dk_at dksX0_fitting_6 20 rfl rfl)
theorem dX0_fitting_161 : decode cX0_fitting 161 = .ok (.iconst 2, 1) := dk_5 (dk_at dksX0_fitting_6 22 rfl rfl)
theorem dX0_fitting_162 : decode cX0_fitting 162 = .ok (.iload 8, 2) := dk_21 8 (dk_at dksX0_fitting_7 0 rfl rfl)
theorem dX0_fitting_164 : decode cX0_fitting 164 = .ok (.imul, 1) := dk_104 (dk_at dksX0_fitting_7 2 rfl rfl)
theorem dX0_fitting_165 : decode cX0_fitting 165 = .ok (.iconst 1, 1) := dk_4 (dk_at dksX0_fitting_7 3 rfl rfl)
theorem dX0_fitting_166 : decode cX0_fitting 166 = .ok (.iadd, 1) := dk_96 (dk_at dksX0_fitting_7 4 rfl rfl)
theorem dX0_fitting_167 : decode cX0_fitting 167 = .ok (.invokestatic 128, 3) := dk_184 0 128 (dk_at dksX0_fitting_7 5 rfl rfl)
theorem dX0_fitting_170 : decode cX0_fitting 170 = .ok (.l2i, 1) := dk_136 (dk_at dksX0_fitting_7 8 rfl rfl)
theorem dX0_fitting_171 : decode cX0_fitting 171 = .ok (.istore 9, 2) := dk_54 9 (dk_at dksX0_fitting_7 9 rfl rfl)
theorem dX0_fitting_173 : decode cX0_fitting 173 = .ok (.aload_n 0, 1) := dk_42 (dk_at dksX0_fitting_7 11 rfl rfl)
theorem dX0_fitting_174 : decode cX0_fitting 174 = .ok (.invokevirtual 153, 3) := dk_182 0 153 (dk_at dksX0_fitting_7 12 rfl rfl)
theorem dX0_fitting_177 : decode cX0_fitting 177 = .ok (.iload_n 1, 1) := dk_27 (dk_at dksX0_fitting_7 15 rfl rfl)
theorem dX0_fitting_178 : decode cX0_fitting 178 = .ok (.invokevirtual 262, 3) := dk_182 1 6 (dk_at dksX0_fitting_7 16 rfl rfl)
theorem dX0_fitting_181 : decode cX0_fitting 181 = .ok (.iload 9, 2) := dk_21 9 (dk_at dksX0_fitting_7 19 rfl rfl)
theorem dX0_fitting_183 : decode cX0_fitting 183 = .ok (.iand, 1) := dk_126 (dk_at dksX0_fitting_7 21 rfl rfl)
theorem dX0_fitting_184 : decode cX0_fitting 184 = .ok (.invokestatic 289, 3) := dk_184 1 33 (dk_at dksX0_fitting_8 0 rfl rfl)
theorem dX0_fitting_187 : decode cX0_fitting 187 = .ok (.aload_n 0, 1) := dk_42 (dk_at dksX0_fitting_8 3 rfl rfl)
theorem dX0_fitting_188 : decode cX0_fitting 188 = .ok (.invokevirtual 153, 3) := dk_182 0 153 (dk_at dksX0_fitting_8 4 rfl rfl)
theorem dX0_fitting_191 : decode cX0_fitting 191 = .ok (.iload_n 1, 1) := dk_27 (dk_at dksX0_fitting_8 7 rfl rfl)
theorem dX0_fitting_192 : decode cX0_fitting 192 = .ok (.iload 6, 2) := dk_21 6 (dk_at dksX0_fitting_8 8 rfl rfl)
theorem dX0_fitting_194 : decode cX0_fitting 194 = .ok (.aload 4, 2) := dk_25 4 (dk_at dksX0_fitting_8 10 rfl rfl)
theorem dX0_fitting_196 : decode cX0_fitting 196 = .ok (.iconst 2, 1) := dk_5 (dk_at dksX0_fitting_8 12 rfl rfl)
theorem dX0_fitting_197 : decode cX0_fitting 197 = .ok (.iload 8, 2) := dk_21 8 (dk_at dksX0_fitting_8 13 rfl rfl)
theorem dX0_fitting_199 : decode cX0_fitting 199 = .ok (.imul, 1) := dk_104 (dk_at dksX0_fitting_8 15 rfl rfl)
theorem dX0_fitting_200 : decode cX0_fitting 200 = .ok (.invokestatic 128, 3) := dk_184 0 128 (dk_at dksX0_fitting_8 16 rfl rfl)
theorem dX0_fitting_203 : decode cX0_fitting 203 = .ok (.l2i, 1) := dk_136 (dk_at dksX0_fitting_8 19 rfl rfl)
theorem dX0_fitting_204 : decode cX0_fitting 204 = .ok (.invokevirtual 369, 3) := dk_182 1 113 (dk_at dksX0_fitting_8 20 rfl rfl)
theorem dX0_fitting_207 : decode cX0_fitting 207 = .ok (.if_icmp .lt 7, 3) := dk_161 0 7 (dk_at dksX0_fitting_9 0 rfl rfl)
theorem dX0_fitting_210 : decode cX0_fitting 210 = .ok (.iconst 1, 1) := dk_4 (dk_at dksX0_fitting_9 3 rfl rfl)
theorem dX0_fitting_211 : decode cX0_fitting 211 = .ok (.goto 4, 3) := dk_167 0 4 (dk_at dksX0_fitting_9 4 rfl rfl)
theorem dX0_fitting_214 : decode cX0_fitting 214 = .ok (.iconst 0, 1) := dk_3 (dk_at dksX0_fitting_9 7 rfl rfl)
theorem dX0_fitting_215 : decode cX0_fitting 215 = .ok (.istore 10, 2) := dk_54 10 (dk_at dksX0_fitting_9 8 rfl rfl)
theorem dX0_fitting_217 : decode cX0_fitting 217 = .ok (.iload 10, 2) := dk_21 10 (dk_at dksX0_fitting_9 10 rfl rfl)
theorem dX0_fitting_219 : decode cX0_fitting 219 = .ok (.iload 9, 2) := dk_21 9 (dk_at dksX0_fitting_9 12 rfl rfl)
theorem dX0_fitting_221 : decode cX0_fitting 221 = .ok (.iload_n 1, 1) := dk_27 (dk_at dksX0_fitting_9 14 rfl rfl)
theorem dX0_fitting_222 : decode cX0_fitting 222 = .ok (.invokestatic 177, 3) := dk_184 0 177 (dk_at dksX0_fitting_9 15 rfl rfl)
theorem dX0_fitting_225 : decode cX0_fitting 225 = .ok (.if_icmp .ne 7, 3) := dk_160 0 7 (dk_at dksX0_fitting_9 18 rfl rfl)
theorem dX0_fitting_228 : decode cX0_fitting 228 = .ok (.iconst 1, 1) := dk_4 (dk_at dksX0_fitting_9 21 rfl rfl)
theorem dX0_fitting_229 : decode cX0_fitting 229 = .ok (.goto 4, 3) := dk_167 0 4 (dk_at dksX0_fitting_10 0 rfl rfl)
theorem dX0_fitting_232 : decode cX0_fitting 232 = .ok (.iconst 0, 1) := dk_3 (dk_at dksX0_fitting_10 3 rfl rfl)
theorem dX0_fitting_233 : decode cX0_fitting 233 = .ok (.istore 7, 2) := dk_54 7 (dk_at dksX0_fitting_10 4 rfl rfl)
theorem dX0_fitting_235 : decode cX0_fitting 235 = .ok (.iinc 8 1, 3) := dk_132 8 1 (dk_at dksX0_fitting_10 6 rfl rfl)
theorem dX0_fitting_238 : decode cX0_fitting 238 = .ok (.goto (-90), 3) := dk_167 255 166 (dk_at dksX0_fitting_10 9 rfl rfl)
theorem dX0_fitting_241 : decode cX0_fitting 241 = .ok (.iload 5, 2) := dk_21 5 (dk_at dksX0_fitting_10 12 rfl rfl)
theorem dX0_fitting_243 : decode cX0_fitting 243 = .ok (.iload 7, 2) := dk_21 7 (dk_at dksX0_fitting_10 14 rfl rfl)
theorem dX0_fitting_245 : decode cX0_fitting 245 = .ok (.ifCond .eq 10, 3) := dk_153 0 10 (dk_at dksX0_fitting_10 16 rfl rfl)
theorem dX0_fitting_248 : decode cX0_fitting 248 = .ok (.iconst 1, 1) := dk_4 (dk_at dksX0_fitting_10 19 rfl rfl)
theorem dX0_fitting_249 : decode cX0_fitting 249 = .ok (.iload 6, 2) := dk_21 6 (dk_at dksX0_fitting_10 20 rfl rfl)
theorem dX0_fitting_251 : decode cX0_fitting 251 = .ok (.ishl, 1) := dk_120 (dk_at dksX0_fitting_10 22 rfl rfl)
theorem dX0_fitting_252 : decode cX0_fitting 252 = .ok (.goto 4, 3) := dk_167 0 4 (dk_at dksX0_fitting_11 0 rfl rfl)
theorem dX0_fitting_255 : decode cX0_fitting 255 = .ok (.iconst 0, 1) := dk_3 (dk_at dksX0_fitting_11 3 rfl rfl)
theorem dX0_fitting_256 : decode cX0_fitting 256 = .ok (.ior, 1) := dk_128 (dk_at dksX0_fitting_11 4 rfl rfl)
theorem dX0_fitting_257 : decode cX0_fitting 257 = .ok (.istore 5, 2) := dk_54 5 (dk_at dksX0_fitting_11 5 rfl rfl)
theorem dX0_fitting_259 : decode cX0_fitting 259 = .ok (.iinc 6 1, 3) := dk_132 6 1 (dk_at dksX0_fitting_11 7 rfl rfl)
theorem dX0_fitting_262 : decode cX0_fitting 262 = .ok (.goto (-127), 3) := dk_167 255 129 (dk_at dksX0_fitting_11 10 rfl rfl)
theorem dX0_fitting_265 : decode cX0_fitting 265 = .ok (.iload 5, 2) := dk_21 5 (dk_at dksX0_fitting_11 13 rfl rfl)
theorem dX0_fitting_267 : decode cX0_fitting 267 = .ok (.ireturn, 1) := dk_172 (dk_at dksX0_fitting_11 15 rfl rfl)
abbrev cX0_sizeOf : ByteArray := prog_1_method_3_code
def yX0_sizeOf : MethodName := ⟨RX0, "sizeOf", "(Ljava/lang/Object;)I"⟩
def dkwX0_sizeOf_2 : List UInt8 := [42, 192, 0, 7, 190, 172]
abbrev dktX0_sizeOf_2 : List UInt8 := dkwX0_sizeOf_2 ++ []
def dkwX0_sizeOf_1 : List UInt8 := [192, 0, 3, 76, 43, 190, 172, 42, 193, 0, 5, 153, 0, 13, 42, 192, 0, 5, 76, 43, 190, 167, 0, 8]
abbrev dktX0_sizeOf_1 : List UInt8 := dkwX0_sizeOf_1 ++ dktX0_sizeOf_2
def dkwX0_sizeOf_0 : List UInt8 := [42, 193, 0, 1, 153, 0, 11, 42, 192, 0, 1, 76, 43, 190, 172, 42, 193, 0, 3, 153, 0, 11, 42]
abbrev dktX0_sizeOf_0 : List UInt8 := dkwX0_sizeOf_0 ++ dktX0_sizeOf_1
theorem dksX0_sizeOf_0 : cX0_sizeOf.data.toList.drop 0 = dktX0_sizeOf_0 := by decide +kernel
theorem dksX0_sizeOf_1 : cX0_sizeOf.data.toList.drop 23 = dktX0_sizeOf_1 := dk_seg dksX0_sizeOf_0 23 rfl rfl
theorem dksX0_sizeOf_2 : cX0_sizeOf.data.toList.drop 47 = dktX0_sizeOf_2 := dk_seg dksX0_sizeOf_1 24 rfl rfl
theorem dX0_sizeOf_0 : decode cX0_sizeOf 0 = .ok (.aload_n 0, 1) := dk_42 (dk_at dksX0_sizeOf_0 0 rfl rfl)
theorem dX0_sizeOf_1 : decode cX0_sizeOf 1 = .ok (.instanceof 1, 3) := dk_193 0 1 (dk_at dksX0_sizeOf_0 1 rfl rfl)
theorem dX0_sizeOf_4 : decode cX0_sizeOf 4 = .ok (.ifCond .eq 11, 3) := dk_153 0 11 (dk_at dksX0_sizeOf_0 4 rfl rfl)
theorem dX0_sizeOf_7 : decode cX0_sizeOf 7 = .ok (.aload_n 0, 1) := dk_42 (dk_at dksX0_sizeOf_0 7 rfl rfl)
theorem dX0_sizeOf_8 : decode cX0_sizeOf 8 = .ok (.checkcast 1, 3) := dk_192 0 1 (dk_at dksX0_sizeOf_0 8 rfl rfl)
theorem dX0_sizeOf_11 : decode cX0_sizeOf 11 = .ok (.astore_n 1, 1) := dk_76 (dk_at dksX0_sizeOf_0 11 rfl rfl)
theorem dX0_sizeOf_12 : decode cX0_sizeOf 12 = .ok (.aload_n 1, 1) := dk_43 (dk_at dksX0_sizeOf_0 12 rfl rfl)
theorem dX0_sizeOf_13 : decode cX0_sizeOf 13 = .ok (.arraylength, 1) := dk_190 (dk_at dksX0_sizeOf_0 13 rfl rfl)
theorem dX0_sizeOf_14 : decode cX0_sizeOf 14 = .ok (.ireturn, 1) := dk_172 (dk_at dksX0_sizeOf_0 14 rfl rfl)
theorem dX0_sizeOf_15 : decode cX0_sizeOf 15 = .ok (.aload_n 0, 1) := dk_42 (dk_at dksX0_sizeOf_0 15 rfl rfl)
theorem dX0_sizeOf_16 : decode cX0_sizeOf 16 = .ok (.instanceof 3, 3) := dk_193 0 3 (dk_at dksX0_sizeOf_0 16 rfl rfl)
theorem dX0_sizeOf_19 : decode cX0_sizeOf 19 = .ok (.ifCond .eq 11, 3) := dk_153 0 11 (dk_at dksX0_sizeOf_0 19 rfl rfl)
theorem dX0_sizeOf_22 : decode cX0_sizeOf 22 = .ok (.aload_n 0, 1) := dk_42 (dk_at dksX0_sizeOf_0 22 rfl rfl)
theorem dX0_sizeOf_23 : decode cX0_sizeOf 23 = .ok (.checkcast 3, 3) := dk_192 0 3 (dk_at dksX0_sizeOf_1 0 rfl rfl)
theorem dX0_sizeOf_26 : decode cX0_sizeOf 26 = .ok (.astore_n 1, 1) := dk_76 (dk_at dksX0_sizeOf_1 3 rfl rfl)
theorem dX0_sizeOf_27 : decode cX0_sizeOf 27 = .ok (.aload_n 1, 1) := dk_43 (dk_at dksX0_sizeOf_1 4 rfl rfl)
theorem dX0_sizeOf_28 : decode cX0_sizeOf 28 = .ok (.arraylength, 1) := dk_190 (dk_at dksX0_sizeOf_1 5 rfl rfl)
theorem dX0_sizeOf_29 : decode cX0_sizeOf 29 = .ok (.ireturn, 1) := dk_172 (dk_at dksX0_sizeOf_1 6 rfl rfl)
theorem dX0_sizeOf_30 : decode cX0_sizeOf 30 = .ok (.aload_n 0, 1) := dk_42 (dk_at dksX0_sizeOf_1 7 rfl rfl)
theorem dX0_sizeOf_31 : decode cX0_sizeOf 31 = .ok (.instanceof 5, 3) := dk_193 0 5 (dk_at dksX0_sizeOf_1 8 rfl rfl)
theorem dX0_sizeOf_34 : decode cX0_sizeOf 34 = .ok (.ifCond .eq 13, 3) := dk_153 0 13 (dk_at dksX0_sizeOf_1 11 rfl rfl)
theorem dX0_sizeOf_37 : decode cX0_sizeOf 37 = .ok (.aload_n 0, 1) := dk_42 (dk_at dksX0_sizeOf_1 14 rfl rfl)
theorem dX0_sizeOf_38 : decode cX0_sizeOf 38 = .ok (.checkcast 5, 3) := dk_192 0 5 (dk_at dksX0_sizeOf_1 15 rfl rfl)
theorem dX0_sizeOf_41 : decode cX0_sizeOf 41 = .ok (.astore_n 1, 1) := dk_76 (dk_at dksX0_sizeOf_1 18 rfl rfl)
theorem dX0_sizeOf_42 : decode cX0_sizeOf 42 = .ok (.aload_n 1, 1) := dk_43 (dk_at dksX0_sizeOf_1 19 rfl rfl)
theorem dX0_sizeOf_43 : decode cX0_sizeOf 43 = .ok (.arraylength, 1) := dk_190 (dk_at dksX0_sizeOf_1 20 rfl rfl)
theorem dX0_sizeOf_44 : decode cX0_sizeOf 44 = .ok (.goto 8, 3) := dk_167 0 8 (dk_at dksX0_sizeOf_1 21 rfl rfl)
theorem dX0_sizeOf_47 : decode cX0_sizeOf 47 = .ok (.aload_n 0, 1) := dk_42 (dk_at dksX0_sizeOf_2 0 rfl rfl)
theorem dX0_sizeOf_48 : decode cX0_sizeOf 48 = .ok (.checkcast 7, 3) := dk_192 0 7 (dk_at dksX0_sizeOf_2 1 rfl rfl)
theorem dX0_sizeOf_51 : decode cX0_sizeOf 51 = .ok (.arraylength, 1) := dk_190 (dk_at dksX0_sizeOf_2 4 rfl rfl)
theorem dX0_sizeOf_52 : decode cX0_sizeOf 52 = .ok (.ireturn, 1) := dk_172 (dk_at dksX0_sizeOf_2 5 rfl rfl)
abbrev cX0_fitsAt : ByteArray := prog_1_method_79_code
def yX0_fitsAt : MethodName := ⟨RX0, "fitsAt", "(IIII)I"⟩
def dkwX0_fitsAt_3 : List UInt8 := [25, 5, 182, 0, 134, 172]
abbrev dktX0_fitsAt_3 : List UInt8 := dkwX0_fitsAt_3 ++ []
def dkwX0_fitsAt_2 : List UInt8 := [154, 0, 11, 21, 5, 184, 1, 120, 167, 0, 11, 16, 31, 21, 5, 184, 1, 123, 100, 172, 58, 5, 42]
abbrev dktX0_fitsAt_2 : List UInt8 := dkwX0_fitsAt_2 ++ dktX0_fitsAt_3
def dkwX0_fitsAt_1 : List UInt8 := [182, 1, 117, 54, 5, 42, 21, 5, 153, 0, 7, 4, 167, 0, 4, 3, 16, 6, 182, 0, 101, 21, 4]
abbrev dktX0_fitsAt_1 : List UInt8 := dkwX0_fitsAt_1 ++ dktX0_fitsAt_2
def dkwX0_fitsAt_0 : List UInt8 := [42, 3, 181, 0, 76, 42, 21, 4, 133, 9, 10, 184, 0, 160, 4, 182, 0, 101, 42, 27, 28, 29]
abbrev dktX0_fitsAt_0 : List UInt8 := dkwX0_fitsAt_0 ++ dktX0_fitsAt_1
theorem dksX0_fitsAt_0 : cX0_fitsAt.data.toList.drop 0 = dktX0_fitsAt_0 := by decide +kernel
theorem dksX0_fitsAt_1 : cX0_fitsAt.data.toList.drop 22 = dktX0_fitsAt_1 := dk_seg dksX0_fitsAt_0 22 rfl rfl
theorem dksX0_fitsAt_2 : cX0_fitsAt.data.toList.drop 45 = dktX0_fitsAt_2 := dk_seg dksX0_fitsAt_1 23 rfl rfl
theorem dksX0_fitsAt_3 : cX0_fitsAt.data.toList.drop 68 = dktX0_fitsAt_3 := dk_seg dksX0_fitsAt_2 23 rfl rfl
theorem dX0_fitsAt_0 : decode cX0_fitsAt 0 = .ok (.aload_n 0, 1) := dk_42 (dk_at dksX0_fitsAt_0 0 rfl rfl)
theorem dX0_fitsAt_1 : decode cX0_fitsAt 1 = .ok (.iconst 0, 1) := dk_3 (dk_at dksX0_fitsAt_0 1 rfl rfl)
theorem dX0_fitsAt_2 : decode cX0_fitsAt 2 = .ok (.putfield 76, 3) := dk_181 0 76 (dk_at dksX0_fitsAt_0 2 rfl rfl)
theorem dX0_fitsAt_5 : decode cX0_fitsAt 5 = .ok (.aload_n 0, 1) := dk_42 (dk_at dksX0_fitsAt_0 5 rfl rfl)
theorem dX0_fitsAt_6 : decode cX0_fitsAt 6 = .ok (.iload 4, 2) := dk_21 4 (dk_at dksX0_fitsAt_0 6 rfl rfl)
theorem dX0_fitsAt_8 : decode cX0_fitsAt 8 = .ok (.i2l, 1) := dk_133 (dk_at dksX0_fitsAt_0 8 rfl rfl)
theorem dX0_fitsAt_9 : decode cX0_fitsAt 9 = .ok (.lconst 0, 1) := dk_9 (dk_at dksX0_fitsAt_0 9 rfl rfl)
theorem dX0_fitsAt_10 : decode cX0_fitsAt 10 = .ok (.lconst 1, 1) := dk_10 (dk_at dksX0_fitsAt_0 10 rfl rfl)
theorem dX0_fitsAt_11 : decode cX0_fitsAt 11 = .ok (.invokestatic 160, 3) := dk_184 0 160 (dk_at dksX0_fitsAt_0 11 rfl rfl)
theorem dX0_fitsAt_14 : decode cX0_fitsAt 14 = .ok (.iconst 1, 1) := dk_4 (dk_at dksX0_fitsAt_0 14 rfl rfl)
theorem dX0_fitsAt_15 : decode cX0_fitsAt 15 = .ok (.invokevirtual 101, 3) := dk_182 0 101 (dk_at dksX0_fitsAt_0 15 rfl rfl)
theorem dX0_fitsAt_18 : decode cX0_fitsAt 18 = .ok (.aload_n 0, 1) := dk_42 (dk_at dksX0_fitsAt_0 18 rfl rfl)
theorem dX0_fitsAt_19 : decode cX0_fitsAt 19 = .ok (.iload_n 1, 1) := dk_27 (dk_at dksX0_fitsAt_0 19 rfl rfl)
theorem dX0_fitsAt_20 : decode cX0_fitsAt 20 = .ok (.iload_n 2, 1) := dk_28 (dk_at dksX0_fitsAt_0 20 rfl rfl)
theorem dX0_fitsAt_21 : decode cX0_fitsAt 21 = .ok (.iload_n 3, 1) := dk_29 (dk_at dksX0_fitsAt_0 21 rfl rfl)
theorem dX0_fitsAt_22 : decode cX0_fitsAt 22 = .ok (.invokevirtual 373, 3) := dk_182 1 117 (dk_at dksX0_fitsAt_1 0 rfl rfl)
theorem dX0_fitsAt_25 : decode cX0_fitsAt 25 = .ok (.istore 5, 2) := dk_54 5 (dk_at dksX0_fitsAt_1 3 rfl rfl)
theorem dX0_fitsAt_27 : decode cX0_fitsAt 27 = .ok (.aload_n 0, 1) := dk_42 (dk_at dksX0_fitsAt_1 5 rfl rfl)
theorem dX0_fitsAt_28 : decode cX0_fitsAt 28 = .ok (.iload 5, 2) := dk_21 5 (dk_at dksX0_fitsAt_1 6 rfl rfl)
theorem dX0_fitsAt_30 : decode cX0_fitsAt 30 = .ok (.ifCond .eq 7, 3) := dk_153 0 7 (dk_at dksX0_fitsAt_1 8 rfl rfl)
theorem dX0_fitsAt_33 : decode cX0_fitsAt 33 = .ok (.iconst 1, 1) := dk_4 (dk_at dksX0_fitsAt_1 11 rfl rfl)
theorem dX0_fitsAt_34 : decode cX0_fitsAt 34 = .ok (.goto 4, 3) := dk_167 0 4 (dk_at dksX0_fitsAt_1 12 rfl rfl)
theorem dX0_fitsAt_37 : decode cX0_fitsAt 37 = .ok (.iconst 0, 1) := dk_3 (dk_at dksX0_fitsAt_1 15 rfl rfl)
theorem dX0_fitsAt_38 : decode cX0_fitsAt 38 = .ok (.bipush 6, 2) := dk_16 6 (dk_at dksX0_fitsAt_1 16 rfl rfl)
theorem dX0_fitsAt_40 : decode cX0_fitsAt 40 = .ok (.invokevirtual 101, 3) := dk_182 0 101 (dk_at dksX0_fitsAt_1 18 rfl rfl)
theorem dX0_fitsAt_43 : decode cX0_fitsAt 43 = .ok (.iload 4, 2) := dk_21 4 (dk_at dksX0_fitsAt_1 21 rfl rfl)
theorem dX0_fitsAt_45 : decode cX0_fitsAt 45 = .ok (.ifCond .ne 11, 3) := dk_154 0 11 (dk_at dksX0_fitsAt_2 0 rfl rfl)
theorem dX0_fitsAt_48 : decode cX0_fitsAt 48 = .ok (.iload 5, 2) := dk_21 5 (dk_at dksX0_fitsAt_2 3 rfl rfl)
theorem dX0_fitsAt_50 : decode cX0_fitsAt 50 = .ok (.invokestatic 376, 3) := dk_184 1 120 (dk_at dksX0_fitsAt_2 5 rfl rfl)
theorem dX0_fitsAt_53 : decode cX0_fitsAt 53 = .ok (.goto 11, 3) := dk_167 0 11 (dk_at dksX0_fitsAt_2 8 rfl rfl)
theorem dX0_fitsAt_56 : decode cX0_fitsAt 56 = .ok (.bipush 31, 2) := dk_16 31 (dk_at dksX0_fitsAt_2 11 rfl rfl)
theorem dX0_fitsAt_58 : decode cX0_fitsAt 58 = .ok (.iload 5, 2) := dk_21 5 (dk_at dksX0_fitsAt_2 13 rfl rfl)
theorem dX0_fitsAt_60 : decode cX0_fitsAt 60 = .ok (.invokestatic 379, 3) := dk_184 1 123 (dk_at dksX0_fitsAt_2 15 rfl rfl)
theorem dX0_fitsAt_63 : decode cX0_fitsAt 63 = .ok (.isub, 1) := dk_100 (dk_at dksX0_fitsAt_2 18 rfl rfl)
theorem dX0_fitsAt_64 : decode cX0_fitsAt 64 = .ok (.ireturn, 1) := dk_172 (dk_at dksX0_fitsAt_2 19 rfl rfl)
theorem dX0_fitsAt_65 : decode cX0_fitsAt 65 = .ok (.astore 5, 2) := dk_58 5 (dk_at dksX0_fitsAt_2 20 rfl rfl)
theorem dX0_fitsAt_67 : decode cX0_fitsAt 67 = .ok (.aload_n 0, 1) := dk_42 (dk_at dksX0_fitsAt_2 22 rfl rfl)
theorem dX0_fitsAt_68 : decode cX0_fitsAt 68 = .ok (.aload 5, 2) := dk_25 5 (dk_at dksX0_fitsAt_3 0 rfl rfl)
theorem dX0_fitsAt_70 : decode cX0_fitsAt 70 = .ok (.invokevirtual 134, 3) := dk_182 0 134 (dk_at dksX0_fitsAt_3 2 rfl rfl)
theorem dX0_fitsAt_73 : decode cX0_fitsAt 73 = .ok (.ireturn, 1) := dk_172 (dk_at dksX0_fitsAt_3 5 rfl rfl)
abbrev cX0_ask : ByteArray := prog_1_method_80_code
def yX0_ask : MethodName := ⟨RX0, "ask", "(III)I"⟩
def dkwX0_ask_7 : List UInt8 := [58, 4, 42, 25, 4, 182, 0, 134, 172]
abbrev dktX0_ask_7 : List UInt8 := dkwX0_ask_7 ++ []
def dkwX0_ask_6 : List UInt8 := [100, 184, 1, 126, 54, 7, 21, 8, 54, 6, 132, 8, 1, 167, 255, 151, 42, 21, 6, 182, 1, 59, 172]
abbrev dktX0_ask_6 : List UInt8 := dkwX0_ask_6 ++ dktX0_ask_7
def dkwX0_ask_5 : List UInt8 := [21, 9, 21, 5, 21, 9, 100, 184, 1, 126, 21, 7, 161, 0, 6, 167, 0, 19, 21, 9, 21, 5, 21, 9]
abbrev dktX0_ask_5 : List UInt8 := dkwX0_ask_5 ++ dktX0_ask_6
def dkwX0_ask_4 : List UInt8 := [21, 8, 120, 182, 1, 113, 154, 0, 7, 4, 167, 0, 4, 3, 96, 54, 9, 132, 10, 1, 167, 255, 209]
abbrev dktX0_ask_4 : List UInt8 := dkwX0_ask_4 ++ dktX0_ask_5
def dkwX0_ask_3 : List UInt8 := [163, 0, 46, 21, 9, 21, 4, 21, 10, 184, 0, 177, 153, 0, 24, 42, 182, 0, 153, 27, 21, 10, 4]
abbrev dktX0_ask_3 : List UInt8 := dkwX0_ask_3 ++ dktX0_ask_4
def dkwX0_ask_2 : List UInt8 := [54, 8, 21, 8, 42, 182, 0, 153, 180, 0, 157, 162, 0, 99, 3, 54, 9, 3, 54, 10, 21, 10, 16, 9]
abbrev dktX0_ask_2 : List UInt8 := dkwX0_ask_2 ++ dktX0_ask_3
def dkwX0_ask_1 : List UInt8 := [4, 164, 0, 7, 4, 167, 0, 4, 3, 16, 6, 182, 0, 101, 2, 54, 6, 21, 5, 4, 96, 54, 7, 3]
abbrev dktX0_ask_1 : List UInt8 := dkwX0_ask_1 ++ dktX0_ask_2
def dkwX0_ask_0 : List UInt8 := [42, 3, 181, 0, 76, 42, 27, 28, 29, 182, 1, 117, 54, 4, 21, 4, 184, 1, 33, 54, 5, 42, 21, 5]
abbrev dktX0_ask_0 : List UInt8 := dkwX0_ask_0 ++ dktX0_ask_1
theorem dksX0_ask_0 : cX0_ask.data.toList.drop 0 = dktX0_ask_0 := by decide +kernel
theorem dksX0_ask_1 : cX0_ask.data.toList.drop 24 = dktX0_ask_1 := dk_seg dksX0_ask_0 24 rfl rfl
theorem dksX0_ask_2 : cX0_ask.data.toList.drop 48 = dktX0_ask_2 := dk_seg dksX0_ask_1 24 rfl rfl
theorem dksX0_ask_3 : cX0_ask.data.toList.drop 72 = dktX0_ask_3 := dk_seg dksX0_ask_2 24 rfl rfl
theorem dksX0_ask_4 : cX0_ask.data.toList.drop 95 = dktX0_ask_4 := dk_seg dksX0_ask_3 23 rfl rfl
theorem dksX0_ask_5 : cX0_ask.data.toList.drop 118 = dktX0_ask_5 := dk_seg dksX0_ask_4 23 rfl rfl
theorem dksX0_ask_6 : cX0_ask.data.toList.drop 142 = dktX0_ask_6 := dk_seg dksX0_ask_5 24 rfl rfl
theorem dksX0_ask_7 : cX0_ask.data.toList.drop 165 = dktX0_ask_7 := dk_seg dksX0_ask_6 23 rfl rfl
theorem dX0_ask_0 : decode cX0_ask 0 = .ok (.aload_n 0, 1) := dk_42 (dk_at dksX0_ask_0 0 rfl rfl)
theorem dX0_ask_1 : decode cX0_ask 1 = .ok (.iconst 0, 1) := dk_3 (dk_at dksX0_ask_0 1 rfl rfl)
theorem dX0_ask_2 : decode cX0_ask 2 = .ok (.putfield 76, 3) := dk_181 0 76 (dk_at dksX0_ask_0 2 rfl rfl)
theorem dX0_ask_5 : decode cX0_ask 5 = .ok (.aload_n 0, 1) := dk_42 (dk_at dksX0_ask_0 5 rfl rfl)
theorem dX0_ask_6 : decode cX0_ask 6 = .ok (.iload_n 1, 1) := dk_27 (dk_at dksX0_ask_0 6 rfl rfl)
theorem dX0_ask_7 : decode cX0_ask 7 = .ok (.iload_n 2, 1) := dk_28 (dk_at dksX0_ask_0 7 rfl rfl)
theorem dX0_ask_8 : decode cX0_ask 8 = .ok (.iload_n 3, 1) := dk_29 (dk_at dksX0_ask_0 8 rfl rfl)
theorem dX0_ask_9 : decode cX0_ask 9 = .ok (.invokevirtual 373, 3) := dk_182 1 117 (dk_at dksX0_ask_0 9 rfl rfl)
theorem dX0_ask_12 : decode cX0_ask 12 = .ok (.istore 4, 2) := dk_54 4 (dk_at dksX0_ask_0 12 rfl rfl)
theorem dX0_ask_14 : decode cX0_ask 14 = .ok (.iload 4, 2) := dk_21 4 (dk_at dksX0_ask_0 14 rfl rfl)
theorem dX0_ask_16 : decode cX0_ask 16 = .ok (.invokestatic 289, 3) := dk_184 1 33 (dk_at dksX0_ask_0 16 rfl rfl)
theorem dX0_ask_19 : decode cX0_ask 19 = .ok (.istore 5, 2) := dk_54 5 (dk_at dksX0_ask_0 19 rfl rfl)
theorem dX0_ask_21 : decode cX0_ask 21 = .ok (.aload_n 0, 1) := dk_42 (dk_at dksX0_ask_0 21 rfl rfl)
theorem dX0_ask_22 : decode cX0_ask 22 = .ok (.iload 5, 2) := dk_21 5 (dk_at dksX0_ask_0 22 rfl rfl)
theorem dX0_ask_24 : decode cX0_ask 24 = .ok (.iconst 1, 1) := dk_4 (dk_at dksX0_ask_1 0 rfl rfl)
theorem dX0_ask_25 : decode cX0_ask 25 = .ok (.if_icmp .le 7, 3) := dk_164 0 7 (dk_at dksX0_ask_1 1 rfl rfl)
theorem dX0_ask_28 : decode cX0_ask 28 = .ok (.iconst 1, 1) := dk_4 (dk_at dksX0_ask_1 4 rfl rfl)
theorem dX0_ask_29 : decode cX0_ask 29 = .ok (.goto 4, 3) := dk_167 0 4 (dk_at dksX0_ask_1 5 rfl rfl)
theorem dX0_ask_32 : decode cX0_ask 32 = .ok (.iconst 0, 1) := dk_3 (dk_at dksX0_ask_1 8 rfl rfl)
theorem dX0_ask_33 : decode cX0_ask 33 = .ok (.bipush 6, 2) := dk_16 6 (dk_at dksX0_ask_1 9 rfl rfl)
theorem dX0_ask_35 : decode cX0_ask 35 = .ok (.invokevirtual 101, 3) := dk_182 0 101 (dk_at dksX0_ask_1 11 rfl rfl)
theorem dX0_ask_38 : decode cX0_ask 38 = .ok (.iconst (-1), 1) := dk_2 (dk_at dksX0_ask_1 14 rfl rfl)
theorem dX0_ask_39 : decode cX0_ask 39 = .ok (.istore 6, 2) := dk_54 6 (dk_at dksX0_ask_1 15 rfl rfl)
theorem dX0_ask_41 : decode cX0_ask 41 = .ok (.iload 5, 2) := dk_21 5 (dk_at dksX0_ask_1 17 rfl rfl)
theorem dX0_ask_43 : decode cX0_ask 43 = .ok (.iconst 1, 1) := dk_4 (dk_at dksX0_ask_1 19 rfl rfl)
theorem dX0_ask_44 : decode cX0_ask 44 = .ok (.iadd, 1) := dk_96 (dk_at dksX0_ask_1 20 rfl rfl)
theorem dX0_ask_45 : decode cX0_ask 45 = .ok (.istore 7, 2) := dk_54 7 (dk_at dksX0_ask_1 21 rfl rfl)
theorem dX0_ask_47 : decode cX0_ask 47 = .ok (.iconst 0, 1) := dk_3 (dk_at dksX0_ask_1 23 rfl rfl)
theorem dX0_ask_48 : decode cX0_ask 48 = .ok (.istore 8, 2) := dk_54 8 (dk_at dksX0_ask_2 0 rfl rfl)
theorem dX0_ask_50 : decode cX0_ask 50 = .ok (.iload 8, 2) := dk_21 8 (dk_at dksX0_ask_2 2 rfl rfl)
theorem dX0_ask_52 : decode cX0_ask 52 = .ok (.aload_n 0, 1) := dk_42 (dk_at dksX0_ask_2 4 rfl rfl)
theorem dX0_ask_53 : decode cX0_ask 53 = .ok (.invokevirtual 153, 3) := dk_182 0 153 (dk_at dksX0_ask_2 5 rfl rfl)
theorem dX0_ask_56 : decode cX0_ask 56 = .ok (.getfield 157, 3) := dk_180 0 157 (dk_at dksX0_ask_2 8 rfl rfl)
theorem dX0_ask_59 : decode cX0_ask 59 = .ok (.if_icmp .ge 99, 3) := dk_162 0 99 (dk_at dksX0_ask_2 11 rfl rfl)
theorem dX0_ask_62 : decode cX0_ask 62 = .ok (.iconst 0, 1) := dk_3 (dk_at dksX0_ask_2 14 rfl rfl)
theorem dX0_ask_63 : decode cX0_ask 63 = .ok (.istore 9, 2) := dk_54 9 (dk_at dksX0_ask_2 15 rfl rfl)
theorem dX0_ask_65 : decode cX0_ask 65 = .ok (.iconst 0, 1) := dk_3 (dk_at dksX0_ask_2 17 rfl rfl)
theorem dX0_ask_66 : decode cX0_ask 66 = .ok (.istore 10, 2) := dk_54 10 (dk_at dksX0_ask_2 18 rfl rfl)
theorem dX0_ask_68 : decode cX0_ask 68 = .ok (.iload 10, 2) := dk_21 10 (dk_at dksX0_ask_2 20 rfl rfl)
theorem dX0_ask_70 : decode cX0_ask 70 = .ok (.bipush 9, 2) := dk_16 9 (dk_at dksX0_ask_2 22 rfl rfl)
theorem dX0_ask_72 : decode cX0_ask 72 = .ok (.if_icmp .gt 46, 3) := dk_163 0 46 (dk_at dksX0_ask_3 0 rfl rfl)
theorem dX0_ask_75 : decode cX0_ask 75 = .ok (.iload 9, 2) := dk_21 9 (dk_at dksX0_ask_3 3 rfl rfl)
theorem dX0_ask_77 : decode cX0_ask 77 = .ok (.iload 4, 2) := dk_21 4 (dk_at dksX0_ask_3 5 rfl rfl)
theorem dX0_ask_79 : decode cX0_ask 79 = .ok (.iload 10, 2) := dk_21 10 (dk_at dksX0_ask_3 7 rfl rfl)
theorem dX0_ask_81 : decode cX0_ask 81 = .ok (.invokestatic 177, 3) := dk_184 0 177 (dk_at dksX0_ask_3 9 rfl rfl)
theorem dX0_ask_84 : decode cX0_ask 84 = .ok (.ifCond .eq 24, 3) := dk_153 0 24 (dk_at dksX0_ask_3 12 rfl rfl)
theorem dX0_ask_87 : decode cX0_ask 87 = .ok (.aload_n 0, 1) := dk_42 (dk_at dksX0_ask_3 15 rfl rfl)
theorem dX0_ask_88 : decode cX0_ask 88 = .ok (.invokevirtual 153, 3) := dk_182 0 153 (dk_at dksX0_ask_3 16 rfl rfl)
theorem dX0_ask_91 : decode cX0_ask 91 = .ok (.iload_n 1, 1) := dk_27 (dk_at dksX0_ask_3 19 rfl rfl)
theorem dX0_ask_92 : decode cX0_ask 92 = .ok (.iload 10, 2) := dk_21 10 (dk_at dksX0_ask_3 20 rfl rfl)
theorem dX0_ask_94 : decode cX0_ask 94 = .ok (.iconst 1, 1) := dk_4 (dk_at dksX0_ask_3 22 rfl rfl)
theorem dX0_ask_95 : decode cX0_ask 95 = .ok (.iload 8, 2) := dk_21 8 (dk_at dksX0_ask_4 0 rfl rfl)
theorem dX0_ask_97 : decode cX0_ask 97 = .ok (.ishl, 1) := dk_120 (dk_at dksX0_ask_4 2 rfl rfl)
theorem dX0_ask_98 : decode cX0_ask 98 = .ok (.invokevirtual 369, 3) := dk_182 1 113 (dk_at dksX0_ask_4 3 rfl rfl)
theorem dX0_ask_101 : decode cX0_ask 101 = .ok (.ifCond .ne 7, 3) := dk_154 0 7 (dk_at dksX0_ask_4 6 rfl rfl)
theorem dX0_ask_104 : decode cX0_ask 104 = .ok (.iconst 1, 1) := dk_4 (dk_at dksX0_ask_4 9 rfl rfl)
theorem dX0_ask_105 : decode cX0_ask 105 = .ok (.goto 4, 3) := dk_167 0 4 (dk_at dksX0_ask_4 10 rfl rfl)
theorem dX0_ask_108 : decode cX0_ask 108 = .ok (.iconst 0, 1) := dk_3 (dk_at dksX0_ask_4 13 rfl rfl)
theorem dX0_ask_109 : decode cX0_ask 109 = .ok (.iadd, 1) := dk_96 (dk_at dksX0_ask_4 14 rfl rfl)
theorem dX0_ask_110 : decode cX0_ask 110 = .ok (.istore 9, 2) := dk_54 9 (dk_at dksX0_ask_4 15 rfl rfl)
theorem dX0_ask_112 : decode cX0_ask 112 = .ok (.iinc 10 1, 3) := dk_132 10 1 (dk_at dksX0_ask_4 17 rfl rfl)
theorem dX0_ask_115 : decode cX0_ask 115 = .ok (.goto (-47), 3) := dk_167 255 209 (dk_at dksX0_ask_4 20 rfl rfl)
theorem dX0_ask_118 : decode cX0_ask 118 = .ok (.iload 9, 2) := dk_21 9 (dk_at dksX0_ask_5 0 rfl rfl)
theorem dX0_ask_120 : decode cX0_ask 120 = .ok (.iload 5, 2) := dk_21 5 (dk_at dksX0_ask_5 2 rfl rfl)
theorem dX0_ask_122 : decode cX0_ask 122 = .ok (.iload 9, 2) := dk_21 9 (dk_at dksX0_ask_5 4 rfl rfl)
theorem dX0_ask_124 : decode cX0_ask 124 = .ok (.isub, 1) := dk_100 (dk_at dksX0_ask_5 6 rfl rfl)
theorem dX0_ask_125 : decode cX0_ask 125 = .ok (.invokestatic 382, 3) := dk_184 1 126 (dk_at dksX0_ask_5 7 rfl rfl)
theorem dX0_ask_128 : decode cX0_ask 128 = .ok (.iload 7, 2) := dk_21 7 (dk_at dksX0_ask_5 10 rfl rfl)
theorem dX0_ask_130 : decode cX0_ask 130 = .ok (.if_icmp .lt 6, 3) := dk_161 0 6 (dk_at dksX0_ask_5 12 rfl rfl)
theorem dX0_ask_133 : decode cX0_ask 133 = .ok (.goto 19, 3) := dk_167 0 19 (dk_at dksX0_ask_5 15 rfl rfl)
theorem dX0_ask_136 : decode cX0_ask 136 = .ok (.iload 9, 2) := dk_21 9 (dk_at dksX0_ask_5 18 rfl rfl)
theorem dX0_ask_138 : decode cX0_ask 138 = .ok (.iload 5, 2) := dk_21 5 (dk_at dksX0_ask_5 20 rfl rfl)
theorem dX0_ask_140 : decode cX0_ask 140 = .ok (.iload 9, 2) := dk_21 9 (dk_at dksX0_ask_5 22 rfl rfl)
theorem dX0_ask_142 : decode cX0_ask 142 = .ok (.isub, 1) := dk_100 (dk_at dksX0_ask_6 0 rfl rfl)
theorem dX0_ask_143 : decode cX0_ask 143 = .ok (.invokestatic 382, 3) := dk_184 1 126 (dk_at dksX0_ask_6 1 rfl rfl)
theorem dX0_ask_146 : decode cX0_ask 146 = .ok (.istore 7, 2) := dk_54 7 (dk_at dksX0_ask_6 4 rfl rfl)
theorem dX0_ask_148 : decode cX0_ask 148 = .ok (.iload 8, 2) := dk_21 8 (dk_at dksX0_ask_6 6 rfl rfl)
theorem dX0_ask_150 : decode cX0_ask 150 = .ok (.istore 6, 2) := dk_54 6 (dk_at dksX0_ask_6 8 rfl rfl)
theorem dX0_ask_152 : decode cX0_ask 152 = .ok (.iinc 8 1, 3) := dk_132 8 1 (dk_at dksX0_ask_6 10 rfl rfl)
theorem dX0_ask_155 : decode cX0_ask 155 = .ok (.goto (-105), 3) := dk_167 255 151 (dk_at dksX0_ask_6 13 rfl rfl)
theorem dX0_ask_158 : decode cX0_ask 158 = .ok (.aload_n 0, 1) := dk_42 (dk_at dksX0_ask_6 16 rfl rfl)
theorem dX0_ask_159 : decode cX0_ask 159 = .ok (.iload 6, 2) := dk_21 6 (dk_at dksX0_ask_6 17 rfl rfl)
theorem dX0_ask_161 : decode cX0_ask 161 = .ok (.invokevirtual 315, 3) := dk_182 1 59 (dk_at dksX0_ask_6 19 rfl rfl)
theorem dX0_ask_164 : decode cX0_ask 164 = .ok (.ireturn, 1) := dk_172 (dk_at dksX0_ask_6 22 rfl rfl)
theorem dX0_ask_165 : decode cX0_ask 165 = .ok (.astore 4, 2) := dk_58 4 (dk_at dksX0_ask_7 0 rfl rfl)
theorem dX0_ask_167 : decode cX0_ask 167 = .ok (.aload_n 0, 1) := dk_42 (dk_at dksX0_ask_7 2 rfl rfl)
theorem dX0_ask_168 : decode cX0_ask 168 = .ok (.aload 4, 2) := dk_25 4 (dk_at dksX0_ask_7 3 rfl rfl)
theorem dX0_ask_170 : decode cX0_ask 170 = .ok (.invokevirtual 134, 3) := dk_182 0 134 (dk_at dksX0_ask_7 5 rfl rfl)
theorem dX0_ask_173 : decode cX0_ask 173 = .ok (.ireturn, 1) := dk_172 (dk_at dksX0_ask_7 8 rfl rfl)
abbrev cX0_lookouts : ByteArray := prog_1_method_82_code
def yX0_lookouts : MethodName := ⟨RX0, "lookouts", "()I"⟩
def dkwX0_lookouts_0 : List UInt8 := [42, 3, 181, 0, 76, 42, 182, 1, 129, 184, 1, 33, 172]
abbrev dktX0_lookouts_0 : List UInt8 := dkwX0_lookouts_0 ++ []
theorem dksX0_lookouts_0 : cX0_lookouts.data.toList.drop 0 = dktX0_lookouts_0 := by decide +kernel
theorem dX0_lookouts_0 : decode cX0_lookouts 0 = .ok (.aload_n 0, 1) := dk_42 (dk_at dksX0_lookouts_0 0 rfl rfl)
theorem dX0_lookouts_1 : decode cX0_lookouts 1 = .ok (.iconst 0, 1) := dk_3 (dk_at dksX0_lookouts_0 1 rfl rfl)
theorem dX0_lookouts_2 : decode cX0_lookouts 2 = .ok (.putfield 76, 3) := dk_181 0 76 (dk_at dksX0_lookouts_0 2 rfl rfl)
theorem dX0_lookouts_5 : decode cX0_lookouts 5 = .ok (.aload_n 0, 1) := dk_42 (dk_at dksX0_lookouts_0 5 rfl rfl)
theorem dX0_lookouts_6 : decode cX0_lookouts 6 = .ok (.invokevirtual 385, 3) := dk_182 1 129 (dk_at dksX0_lookouts_0 6 rfl rfl)
theorem dX0_lookouts_9 : decode cX0_lookouts 9 = .ok (.invokestatic 289, 3) := dk_184 1 33 (dk_at dksX0_lookouts_0 9 rfl rfl)
theorem dX0_lookouts_12 : decode cX0_lookouts 12 = .ok (.ireturn, 1) := dk_172 (dk_at dksX0_lookouts_0 12 rfl rfl)
abbrev cX0_looking : ByteArray := prog_1_method_81_code
def yX0_looking : MethodName := ⟨RX0, "looking", "()I"⟩
def dkwX0_looking_5 : List UInt8 := [3, 54, 4, 132, 5, 1, 167, 255, 197, 21, 4, 153, 0, 5, 29, 61, 132, 3, 1, 167, 255, 134, 28, 172]
abbrev dktX0_looking_5 : List UInt8 := dkwX0_looking_5 ++ []
def dkwX0_looking_4 : List UInt8 := [184, 0, 177, 154, 0, 17, 42, 182, 0, 153, 21, 5, 182, 1, 6, 29, 126, 153, 0, 7, 4, 167, 0, 4]
abbrev dktX0_looking_4 : List UInt8 := dkwX0_looking_4 ++ dktX0_looking_5
def dkwX0_looking_3 : List UInt8 := [180, 0, 164, 162, 0, 53, 21, 4, 153, 0, 48, 27, 21, 5, 184, 0, 177, 153, 0, 26, 29, 21, 5]
abbrev dktX0_looking_3 : List UInt8 := dkwX0_looking_3 ++ dktX0_looking_4
def dkwX0_looking_2 : List UInt8 := [160, 0, 12, 29, 28, 162, 0, 7, 4, 167, 0, 4, 3, 54, 4, 3, 54, 5, 21, 5, 42, 182, 0, 153]
abbrev dktX0_looking_2 : List UInt8 := dkwX0_looking_2 ++ dktX0_looking_3
def dkwX0_looking_1 : List UInt8 := [154, 0, 34, 29, 184, 1, 33, 28, 184, 1, 33, 161, 0, 19, 29, 184, 1, 33, 28, 184, 1, 33]
abbrev dktX0_looking_1 : List UInt8 := dkwX0_looking_1 ++ dktX0_looking_2
def dkwX0_looking_0 : List UInt8 := [42, 182, 0, 153, 180, 0, 174, 60, 27, 61, 3, 62, 29, 27, 163, 0, 123, 29, 27, 2, 130, 126]
abbrev dktX0_looking_0 : List UInt8 := dkwX0_looking_0 ++ dktX0_looking_1
theorem dksX0_looking_0 : cX0_looking.data.toList.drop 0 = dktX0_looking_0 := by decide +kernel
theorem dksX0_looking_1 : cX0_looking.data.toList.drop 22 = dktX0_looking_1 := dk_seg dksX0_looking_0 22 rfl rfl
theorem dksX0_looking_2 : cX0_looking.data.toList.drop 44 = dktX0_looking_2 := dk_seg dksX0_looking_1 22 rfl rfl
theorem dksX0_looking_3 : cX0_looking.data.toList.drop 68 = dktX0_looking_3 := dk_seg dksX0_looking_2 24 rfl rfl
theorem dksX0_looking_4 : cX0_looking.data.toList.drop 91 = dktX0_looking_4 := dk_seg dksX0_looking_3 23 rfl rfl
theorem dksX0_looking_5 : cX0_looking.data.toList.drop 115 = dktX0_looking_5 := dk_seg dksX0_looking_4 24 rfl rfl
theorem dX0_looking_0 : decode cX0_looking 0 = .ok (.aload_n 0, 1) := dk_42 (dk_at dksX0_looking_0 0 rfl rfl)
theorem dX0_looking_1 : decode cX0_looking 1 = .ok (.invokevirtual 153, 3) := dk_182 0 153 (dk_at dksX0_looking_0 1 rfl rfl)
theorem dX0_looking_4 : decode cX0_looking 4 = .ok (.getfield 174, 3) := dk_180 0 174 (dk_at dksX0_looking_0 4 rfl rfl)
theorem dX0_looking_7 : decode cX0_looking 7 = .ok (.istore_n 1, 1) := dk_60 (dk_at dksX0_looking_0 7 rfl rfl)
theorem dX0_looking_8 : decode cX0_looking 8 = .ok (.iload_n 1, 1) := dk_27 (dk_at dksX0_looking_0 8 rfl rfl)
theorem dX0_looking_9 : decode cX0_looking 9 = .ok (.istore_n 2, 1) := dk_61 (dk_at dksX0_looking_0 9 rfl rfl)
theorem dX0_looking_10 : decode cX0_looking 10 = .ok (.iconst 0, 1) := dk_3 (dk_at dksX0_looking_0 10 rfl rfl)
theorem dX0_looking_11 : decode cX0_looking 11 = .ok (.istore_n 3, 1) := dk_62 (dk_at dksX0_looking_0 11 rfl rfl)
theorem dX0_looking_12 : decode cX0_looking 12 = .ok (.iload_n 3, 1) := dk_29 (dk_at dksX0_looking_0 12 rfl rfl)
theorem dX0_looking_13 : decode cX0_looking 13 = .ok (.iload_n 1, 1) := dk_27 (dk_at dksX0_looking_0 13 rfl rfl)
theorem dX0_looking_14 : decode cX0_looking 14 = .ok (.if_icmp .gt 123, 3) := dk_163 0 123 (dk_at dksX0_looking_0 14 rfl rfl)
theorem dX0_looking_17 : decode cX0_looking 17 = .ok (.iload_n 3, 1) := dk_29 (dk_at dksX0_looking_0 17 rfl rfl)
theorem dX0_looking_18 : decode cX0_looking 18 = .ok (.iload_n 1, 1) := dk_27 (dk_at dksX0_looking_0 18 rfl rfl)
theorem dX0_looking_19 : decode cX0_looking 19 = .ok (.iconst (-1), 1) := dk_2 (dk_at dksX0_looking_0 19 rfl rfl)
theorem dX0_looking_20 : decode cX0_looking 20 = .ok (.ixor, 1) := dk_130 (dk_at dksX0_looking_0 20 rfl rfl)
theorem dX0_looking_21 : decode cX0_looking 21 = .ok (.iand, 1) := dk_126 (dk_at dksX0_looking_0 21 rfl rfl)
theorem dX0_looking_22 : decode cX0_looking 22 = .ok (.ifCond .ne 34, 3) := dk_154 0 34 (dk_at dksX0_looking_1 0 rfl rfl)
theorem dX0_looking_25 : decode cX0_looking 25 = .ok (.iload_n 3, 1) := dk_29 (dk_at dksX0_looking_1 3 rfl rfl)
theorem dX0_looking_26 : decode cX0_looking 26 = .ok (.invokestatic 289, 3) := dk_184 1 33 (dk_at dksX0_looking_1 4 rfl rfl)
theorem dX0_looking_29 : decode cX0_looking 29 = .ok (.iload_n 2, 1) := dk_28 (dk_at dksX0_looking_1 7 rfl rfl)
theorem dX0_looking_30 : decode cX0_looking 30 = .ok (.invokestatic 289, 3) := dk_184 1 33 (dk_at dksX0_looking_1 8 rfl rfl)
theorem dX0_looking_33 : decode cX0_looking 33 = .ok (.if_icmp .lt 19, 3) := dk_161 0 19 (dk_at dksX0_looking_1 11 rfl rfl)
theorem dX0_looking_36 : decode cX0_looking 36 = .ok (.iload_n 3, 1) := dk_29 (dk_at dksX0_looking_1 14 rfl rfl)
theorem dX0_looking_37 : decode cX0_looking 37 = .ok (.invokestatic 289, 3) := dk_184 1 33 (dk_at dksX0_looking_1 15 rfl rfl)
theorem dX0_looking_40 : decode cX0_looking 40 = .ok (.iload_n 2, 1) := dk_28 (dk_at dksX0_looking_1 18 rfl rfl)
theorem dX0_looking_41 : decode cX0_looking 41 = .ok (.invokestatic 289, 3) := dk_184 1 33 (dk_at dksX0_looking_1 19 rfl rfl)
theorem dX0_looking_44 : decode cX0_looking 44 = .ok (.if_icmp .ne 12, 3) := dk_160 0 12 (dk_at dksX0_looking_2 0 rfl rfl)
theorem dX0_looking_47 : decode cX0_looking 47 = .ok (.iload_n 3, 1) := dk_29 (dk_at dksX0_looking_2 3 rfl rfl)
theorem dX0_looking_48 : decode cX0_looking 48 = .ok (.iload_n 2, 1) := dk_28 (dk_at dksX0_looking_2 4 rfl rfl)
theorem dX0_looking_49 : decode cX0_looking 49 = .ok (.if_icmp .ge 7, 3) := dk_162 0 7 (dk_at dksX0_looking_2 5 rfl rfl)
theorem dX0_looking_52 : decode cX0_looking 52 = .ok (.iconst 1, 1) := dk_4 (dk_at dksX0_looking_2 8 rfl rfl)
theorem dX0_looking_53 : decode cX0_looking 53 = .ok (.goto 4, 3) := dk_167 0 4 (dk_at dksX0_looking_2 9 rfl rfl)
theorem dX0_looking_56 : decode cX0_looking 56 = .ok (.iconst 0, 1) := dk_3 (dk_at dksX0_looking_2 12 rfl rfl)
theorem dX0_looking_57 : decode cX0_looking 57 = .ok (.istore 4, 2) := dk_54 4 (dk_at dksX0_looking_2 13 rfl rfl)
theorem dX0_looking_59 : decode cX0_looking 59 = .ok (.iconst 0, 1) := dk_3 (dk_at dksX0_looking_2 15 rfl rfl)
theorem dX0_looking_60 : decode cX0_looking 60 = .ok (.istore 5, 2) := dk_54 5 (dk_at dksX0_looking_2 16 rfl rfl)
theorem dX0_looking_62 : decode cX0_looking 62 = .ok (.iload 5, 2) := dk_21 5 (dk_at dksX0_looking_2 18 rfl rfl)
theorem dX0_looking_64 : decode cX0_looking 64 = .ok (.aload_n 0, 1) := dk_42 (dk_at dksX0_looking_2 20 rfl rfl)
theorem dX0_looking_65 : decode cX0_looking 65 = .ok (.invokevirtual 153, 3) := dk_182 0 153 (dk_at dksX0_looking_2 21 rfl rfl)
theorem dX0_looking_68 : decode cX0_looking 68 = .ok (.getfield 164, 3) := dk_180 0 164 (dk_at dksX0_looking_3 0 rfl rfl)
theorem dX0_looking_71 : decode cX0_looking 71 = .ok (.if_icmp .ge 53, 3) := dk_162 0 53 (dk_at dksX0_looking_3 3 rfl rfl)
theorem dX0_looking_74 : decode cX0_looking 74 = .ok (.iload 4, 2) := dk_21 4 (dk_at dksX0_looking_3 6 rfl rfl)
theorem dX0_looking_76 : decode cX0_looking 76 = .ok (.ifCond .eq 48, 3) := dk_153 0 48 (dk_at dksX0_looking_3 8 rfl rfl)
theorem dX0_looking_79 : decode cX0_looking 79 = .ok (.iload_n 1, 1) := dk_27 (dk_at dksX0_looking_3 11 rfl rfl)
theorem dX0_looking_80 : decode cX0_looking 80 = .ok (.iload 5, 2) := dk_21 5 (dk_at dksX0_looking_3 12 rfl rfl)
theorem dX0_looking_82 : decode cX0_looking 82 = .ok (.invokestatic 177, 3) := dk_184 0 177 (dk_at dksX0_looking_3 14 rfl rfl)
theorem dX0_looking_85 : decode cX0_looking 85 = .ok (.ifCond .eq 26, 3) := dk_153 0 26 (dk_at dksX0_looking_3 17 rfl rfl)
theorem dX0_looking_88 : decode cX0_looking 88 = .ok (.iload_n 3, 1) := dk_29 (dk_at dksX0_looking_3 20 rfl rfl)
theorem dX0_looking_89 : decode cX0_looking 89 = .ok (.iload 5, 2) := dk_21 5 (dk_at dksX0_looking_3 21 rfl rfl)
theorem dX0_looking_91 : decode cX0_looking 91 = .ok (.invokestatic 177, 3) := dk_184 0 177 (dk_at dksX0_looking_4 0 rfl rfl)
theorem dX0_looking_94 : decode cX0_looking 94 = .ok (.ifCond .ne 17, 3) := dk_154 0 17 (dk_at dksX0_looking_4 3 rfl rfl)
theorem dX0_looking_97 : decode cX0_looking 97 = .ok (.aload_n 0, 1) := dk_42 (dk_at dksX0_looking_4 6 rfl rfl)
theorem dX0_looking_98 : decode cX0_looking 98 = .ok (.invokevirtual 153, 3) := dk_182 0 153 (dk_at dksX0_looking_4 7 rfl rfl)
theorem dX0_looking_101 : decode cX0_looking 101 = .ok (.iload 5, 2) := dk_21 5 (dk_at dksX0_looking_4 10 rfl rfl)
theorem dX0_looking_103 : decode cX0_looking 103 = .ok (.invokevirtual 262, 3) := dk_182 1 6 (dk_at dksX0_looking_4 12 rfl rfl)
theorem dX0_looking_106 : decode cX0_looking 106 = .ok (.iload_n 3, 1) := dk_29 (dk_at dksX0_looking_4 15 rfl rfl)
theorem dX0_looking_107 : decode cX0_looking 107 = .ok (.iand, 1) := dk_126 (dk_at dksX0_looking_4 16 rfl rfl)
theorem dX0_looking_108 : decode cX0_looking 108 = .ok (.ifCond .eq 7, 3) := dk_153 0 7 (dk_at dksX0_looking_4 17 rfl rfl)
theorem dX0_looking_111 : decode cX0_looking 111 = .ok (.iconst 1, 1) := dk_4 (dk_at dksX0_looking_4 20 rfl rfl)
theorem dX0_looking_112 : decode cX0_looking 112 = .ok (.goto 4, 3) := dk_167 0 4 (dk_at dksX0_looking_4 21 rfl rfl)
theorem dX0_looking_115 : decode cX0_looking 115 = .ok (.iconst 0, 1) := dk_3 (dk_at dksX0_looking_5 0 rfl rfl)
theorem dX0_looking_116 : decode cX0_looking 116 = .ok (.istore 4, 2) := dk_54 4 (dk_at dksX0_looking_5 1 rfl rfl)
theorem dX0_looking_118 : decode cX0_looking 118 = .ok (.iinc 5 1, 3) := dk_132 5 1 (dk_at dksX0_looking_5 3 rfl rfl)
theorem dX0_looking_121 : decode cX0_looking 121 = .ok (.goto (-59), 3) := dk_167 255 197 (dk_at dksX0_looking_5 6 rfl rfl)
theorem dX0_looking_124 : decode cX0_looking 124 = .ok (.iload 4, 2) := dk_21 4 (dk_at dksX0_looking_5 9 rfl rfl)
theorem dX0_looking_126 : decode cX0_looking 126 = .ok (.ifCond .eq 5, 3) := dk_153 0 5 (dk_at dksX0_looking_5 11 rfl rfl)
theorem dX0_looking_129 : decode cX0_looking 129 = .ok (.iload_n 3, 1) := dk_29 (dk_at dksX0_looking_5 14 rfl rfl)
theorem dX0_looking_130 : decode cX0_looking 130 = .ok (.istore_n 2, 1) := dk_61 (dk_at dksX0_looking_5 15 rfl rfl)
theorem dX0_looking_131 : decode cX0_looking 131 = .ok (.iinc 3 1, 3) := dk_132 3 1 (dk_at dksX0_looking_5 16 rfl rfl)
theorem dX0_looking_134 : decode cX0_looking 134 = .ok (.goto (-122), 3) := dk_167 255 134 (dk_at dksX0_looking_5 19 rfl rfl)
theorem dX0_looking_137 : decode cX0_looking 137 = .ok (.iload_n 2, 1) := dk_28 (dk_at dksX0_looking_5 22 rfl rfl)
theorem dX0_looking_138 : decode cX0_looking 138 = .ok (.ireturn, 1) := dk_172 (dk_at dksX0_looking_5 23 rfl rfl)
abbrev cX0_lookoutSet : ByteArray := prog_1_method_83_code
def yX0_lookoutSet : MethodName := ⟨RX0, "lookoutSet", "()I"⟩
def dkwX0_lookoutSet_0 : List UInt8 := [42, 3, 181, 0, 76, 42, 182, 1, 129, 172]
abbrev dktX0_lookoutSet_0 : List UInt8 := dkwX0_lookoutSet_0 ++ []
theorem dksX0_lookoutSet_0 : cX0_lookoutSet.data.toList.drop 0 = dktX0_lookoutSet_0 := by decide +kernel
theorem dX0_lookoutSet_0 : decode cX0_lookoutSet 0 = .ok (.aload_n 0, 1) := dk_42 (dk_at dksX0_lookoutSet_0 0 rfl rfl)
theorem dX0_lookoutSet_1 : decode cX0_lookoutSet 1 = .ok (.iconst 0, 1) := dk_3 (dk_at dksX0_lookoutSet_0 1 rfl rfl)
theorem dX0_lookoutSet_2 : decode cX0_lookoutSet 2 = .ok (.putfield 76, 3) := dk_181 0 76 (dk_at dksX0_lookoutSet_0 2 rfl rfl)
theorem dX0_lookoutSet_5 : decode cX0_lookoutSet 5 = .ok (.aload_n 0, 1) := dk_42 (dk_at dksX0_lookoutSet_0 5 rfl rfl)
theorem dX0_lookoutSet_6 : decode cX0_lookoutSet 6 = .ok (.invokevirtual 385, 3) := dk_182 1 129 (dk_at dksX0_lookoutSet_0 6 rfl rfl)
theorem dX0_lookoutSet_9 : decode cX0_lookoutSet 9 = .ok (.ireturn, 1) := dk_172 (dk_at dksX0_lookoutSet_0 9 rfl rfl)
abbrev cX0_couples : ByteArray := prog_1_method_84_code
def yX0_couples : MethodName := ⟨RX0, "couples", "()I"⟩
def dkwX0_couples_4 : List UInt8 := [167, 255, 188, 132, 2, 1, 167, 255, 167, 27, 172]
abbrev dktX0_couples_4 : List UInt8 := dkwX0_couples_4 ++ []
def dkwX0_couples_3 : List UInt8 := [182, 0, 153, 29, 182, 1, 6, 28, 184, 0, 177, 153, 0, 7, 4, 167, 0, 4, 3, 96, 60, 132, 3, 1]
abbrev dktX0_couples_3 : List UInt8 := dkwX0_couples_3 ++ dktX0_couples_4
def dkwX0_couples_2 : List UInt8 := [182, 1, 21, 153, 0, 37, 42, 182, 0, 153, 28, 182, 1, 6, 29, 184, 0, 177, 153, 0, 22, 42]
abbrev dktX0_couples_2 : List UInt8 := dkwX0_couples_2 ++ dktX0_couples_3
def dkwX0_couples_1 : List UInt8 := [29, 42, 182, 0, 153, 180, 0, 164, 162, 0, 63, 27, 42, 28, 182, 1, 21, 153, 0, 45, 42, 29]
abbrev dktX0_couples_1 : List UInt8 := dkwX0_couples_1 ++ dktX0_couples_2
def dkwX0_couples_0 : List UInt8 := [42, 3, 181, 0, 76, 3, 60, 3, 61, 28, 42, 182, 0, 153, 180, 0, 164, 162, 0, 84, 28, 4, 96, 62]
abbrev dktX0_couples_0 : List UInt8 := dkwX0_couples_0 ++ dktX0_couples_1
theorem dksX0_couples_0 : cX0_couples.data.toList.drop 0 = dktX0_couples_0 := by decide +kernel
theorem dksX0_couples_1 : cX0_couples.data.toList.drop 24 = dktX0_couples_1 := dk_seg dksX0_couples_0 24 rfl rfl
theorem dksX0_couples_2 : cX0_couples.data.toList.drop 46 = dktX0_couples_2 := dk_seg dksX0_couples_1 22 rfl rfl
theorem dksX0_couples_3 : cX0_couples.data.toList.drop 68 = dktX0_couples_3 := dk_seg dksX0_couples_2 22 rfl rfl
theorem dksX0_couples_4 : cX0_couples.data.toList.drop 92 = dktX0_couples_4 := dk_seg dksX0_couples_3 24 rfl rfl
theorem dX0_couples_0 : decode cX0_couples 0 = .ok (.aload_n 0, 1) := dk_42 (dk_at dksX0_couples_0 0 rfl rfl)
theorem dX0_couples_1 : decode cX0_couples 1 = .ok (.iconst 0, 1) := dk_3 (dk_at dksX0_couples_0 1 rfl rfl)
theorem dX0_couples_2 : decode cX0_couples 2 = .ok (.putfield 76, 3) := dk_181 0 76 (dk_at dksX0_couples_0 2 rfl rfl)
theorem dX0_couples_5 : decode cX0_couples 5 = .ok (.iconst 0, 1) := dk_3 (dk_at dksX0_couples_0 5 rfl rfl)
theorem dX0_couples_6 : decode cX0_couples 6 = .ok (.istore_n 1, 1) := dk_60 (dk_at dksX0_couples_0 6 rfl rfl)
theorem dX0_couples_7 : decode cX0_couples 7 = .ok (.iconst 0, 1) := dk_3 (dk_at dksX0_couples_0 7 rfl rfl)
theorem dX0_couples_8 : decode cX0_couples 8 = .ok (.istore_n 2, 1) := dk_61 (dk_at dksX0_couples_0 8 rfl rfl)
theorem dX0_couples_9 : decode cX0_couples 9 = .ok (.iload_n 2, 1) := dk_28 (dk_at dksX0_couples_0 9 rfl rfl)
theorem dX0_couples_10 : decode cX0_couples 10 = .ok (.aload_n 0, 1) := dk_42 (dk_at dksX0_couples_0 10 rfl rfl)
theorem dX0_couples_11 : decode cX0_couples 11 = .ok (.invokevirtual 153, 3) := dk_182 0 153 (dk_at dksX0_couples_0 11 rfl rfl)
theorem dX0_couples_14 : decode cX0_couples 14 = .ok (.getfield 164, 3) := dk_180 0 164 (dk_at dksX0_couples_0 14 rfl rfl)
theorem dX0_couples_17 : decode cX0_couples 17 = .ok (.if_icmp .ge 84, 3) := dk_162 0 84 (dk_at dksX0_couples_0 17 rfl rfl)
theorem dX0_couples_20 : decode cX0_couples 20 = .ok (.iload_n 2, 1) := dk_28 (dk_at dksX0_couples_0 20 rfl rfl)
theorem dX0_couples_21 : decode cX0_couples 21 = .ok (.iconst 1, 1) := dk_4 (dk_at dksX0_couples_0 21 rfl rfl)
theorem dX0_couples_22 : decode cX0_couples 22 = .ok (.iadd, 1) := dk_96 (dk_at dksX0_couples_0 22 rfl rfl)
theorem dX0_couples_23 : decode cX0_couples 23 = .ok (.istore_n 3, 1) := dk_62 (dk_at dksX0_couples_0 23 rfl rfl)
theorem dX0_couples_24 : decode cX0_couples 24 = .ok (.iload_n 3, 1) := dk_29 (dk_at dksX0_couples_1 0 rfl rfl)
theorem dX0_couples_25 : decode cX0_couples 25 = .ok (.aload_n 0, 1) := dk_42 (dk_at dksX0_couples_1 1 rfl rfl)
theorem dX0_couples_26 : decode cX0_couples 26 = .ok (.invokevirtual 153, 3) := dk_182 0 153 (dk_at dksX0_couples_1 2 rfl rfl)
theorem dX0_couples_29 : decode cX0_couples 29 = .ok (.getfield 164, 3) := dk_180 0 164 (dk_at dksX0_couples_1 5 rfl rfl)
theorem dX0_couples_32 : decode cX0_couples 32 = .ok (.if_icmp .ge 63, 3) := dk_162 0 63 (dk_at dksX0_couples_1 8 rfl rfl)
theorem dX0_couples_35 : decode cX0_couples 35 = .ok (.iload_n 1, 1) := dk_27 (dk_at dksX0_couples_1 11 rfl rfl)
theorem dX0_couples_36 : decode cX0_couples 36 = .ok (.aload_n 0, 1) := dk_42 (dk_at dksX0_couples_1 12 rfl rfl)
theorem dX0_couples_37 : decode cX0_couples 37 = .ok (.iload_n 2, 1) := dk_28 (dk_at dksX0_couples_1 13 rfl rfl)
theorem dX0_couples_38 : decode cX0_couples 38 = .ok (.invokevirtual 277, 3) := dk_182 1 21 (dk_at dksX0_couples_1 14 rfl rfl)
theorem dX0_couples_41 : decode cX0_couples 41 = .ok (.ifCond .eq 45, 3) := dk_153 0 45 (dk_at dksX0_couples_1 17 rfl rfl)
theorem dX0_couples_44 : decode cX0_couples 44 = .ok (.aload_n 0, 1) := dk_42 (dk_at dksX0_couples_1 20 rfl rfl)
theorem dX0_couples_45 : decode cX0_couples 45 = .ok (.iload_n 3, 1) := dk_29 (dk_at dksX0_couples_1 21 rfl rfl)
theorem dX0_couples_46 : decode cX0_couples 46 = .ok (.invokevirtual 277, 3) := dk_182 1 21 (dk_at dksX0_couples_2 0 rfl rfl)
theorem dX0_couples_49 : decode cX0_couples 49 = .ok (.ifCond .eq 37, 3) := dk_153 0 37 (dk_at dksX0_couples_2 3 rfl rfl)
theorem dX0_couples_52 : decode cX0_couples 52 = .ok (.aload_n 0, 1) := dk_42 (dk_at dksX0_couples_2 6 rfl rfl)
theorem dX0_couples_53 : decode cX0_couples 53 = .ok (.invokevirtual 153, 3) := dk_182 0 153 (dk_at dksX0_couples_2 7 rfl rfl)
theorem dX0_couples_56 : decode cX0_couples 56 = .ok (.iload_n 2, 1) := dk_28 (dk_at dksX0_couples_2 10 rfl rfl)
theorem dX0_couples_57 : decode cX0_couples 57 = .ok (.invokevirtual 262, 3) := dk_182 1 6 (dk_at dksX0_couples_2 11 rfl rfl)
theorem dX0_couples_60 : decode cX0_couples 60 = .ok (.iload_n 3, 1) := dk_29 (dk_at dksX0_couples_2 14 rfl rfl)
theorem dX0_couples_61 : decode cX0_couples 61 = .ok (.invokestatic 177, 3) := dk_184 0 177 (dk_at dksX0_couples_2 15 rfl rfl)
theorem dX0_couples_64 : decode cX0_couples 64 = .ok (.ifCond .eq 22, 3) := dk_153 0 22 (dk_at dksX0_couples_2 18 rfl rfl)
theorem dX0_couples_67 : decode cX0_couples 67 = .ok (.aload_n 0, 1) := dk_42 (dk_at dksX0_couples_2 21 rfl rfl)
theorem dX0_couples_68 : decode cX0_couples 68 = .ok (.invokevirtual 153, 3) := dk_182 0 153 (dk_at dksX0_couples_3 0 rfl rfl)
theorem dX0_couples_71 : decode cX0_couples 71 = .ok (.iload_n 3, 1) := dk_29 (dk_at dksX0_couples_3 3 rfl rfl)
theorem dX0_couples_72 : decode cX0_couples 72 = .ok (.invokevirtual 262, 3) := dk_182 1 6 (dk_at dksX0_couples_3 4 rfl rfl)
theorem dX0_couples_75 : decode cX0_couples 75 = .ok (.iload_n 2, 1) := dk_28 (dk_at dksX0_couples_3 7 rfl rfl)
theorem dX0_couples_76 : decode cX0_couples 76 = .ok (.invokestatic 177, 3) := dk_184 0 177 (dk_at dksX0_couples_3 8 rfl rfl)
theorem dX0_couples_79 : decode cX0_couples 79 = .ok (.ifCond .eq 7, 3) := dk_153 0 7 (dk_at dksX0_couples_3 11 rfl rfl)
theorem dX0_couples_82 : decode cX0_couples 82 = .ok (.iconst 1, 1) := dk_4 (dk_at dksX0_couples_3 14 rfl rfl)
theorem dX0_couples_83 : decode cX0_couples 83 = .ok (.goto 4, 3) := dk_167 0 4 (dk_at dksX0_couples_3 15 rfl rfl)
theorem dX0_couples_86 : decode cX0_couples 86 = .ok (.iconst 0, 1) := dk_3 (dk_at dksX0_couples_3 18 rfl rfl)
theorem dX0_couples_87 : decode cX0_couples 87 = .ok (.iadd, 1) := dk_96 (dk_at dksX0_couples_3 19 rfl rfl)
theorem dX0_couples_88 : decode cX0_couples 88 = .ok (.istore_n 1, 1) := dk_60 (dk_at dksX0_couples_3 20 rfl rfl)
theorem dX0_couples_89 : decode cX0_couples 89 = .ok (.iinc 3 1, 3) := dk_132 3 1 (dk_at dksX0_couples_3 21 rfl rfl)
theorem dX0_couples_92 : decode cX0_couples 92 = .ok (.goto (-68), 3) := dk_167 255 188 (dk_at dksX0_couples_4 0 rfl rfl)
theorem dX0_couples_95 : decode cX0_couples 95 = .ok (.iinc 2 1, 3) := dk_132 2 1 (dk_at dksX0_couples_4 3 rfl rfl)
theorem dX0_couples_98 : decode cX0_couples 98 = .ok (.goto (-89), 3) := dk_167 255 167 (dk_at dksX0_couples_4 6 rfl rfl)
theorem dX0_couples_101 : decode cX0_couples 101 = .ok (.iload_n 1, 1) := dk_27 (dk_at dksX0_couples_4 9 rfl rfl)
theorem dX0_couples_102 : decode cX0_couples 102 = .ok (.ireturn, 1) := dk_172 (dk_at dksX0_couples_4 10 rfl rfl)
abbrev cX0_game : ByteArray := prog_1_method_86_code
def yX0_game : MethodName := ⟨RX0, "game", "(I)I"⟩
def dkwX0_game_1 : List UInt8 := [180, 0, 76, 158, 0, 7, 2, 167, 0, 16, 42, 3, 27, 42, 182, 0, 153, 180, 0, 240, 182, 1, 132, 172]
abbrev dktX0_game_1 : List UInt8 := dkwX0_game_1 ++ []
def dkwX0_game_0 : List UInt8 := [42, 27, 133, 9, 20, 1, 48, 184, 0, 160, 153, 0, 7, 3, 167, 0, 4, 4, 181, 0, 76, 42]
abbrev dktX0_game_0 : List UInt8 := dkwX0_game_0 ++ dktX0_game_1
theorem dksX0_game_0 : cX0_game.data.toList.drop 0 = dktX0_game_0 := by decide +kernel
theorem dksX0_game_1 : cX0_game.data.toList.drop 22 = dktX0_game_1 := dk_seg dksX0_game_0 22 rfl rfl
theorem dX0_game_0 : decode cX0_game 0 = .ok (.aload_n 0, 1) := dk_42 (dk_at dksX0_game_0 0 rfl rfl)
theorem dX0_game_1 : decode cX0_game 1 = .ok (.iload_n 1, 1) := dk_27 (dk_at dksX0_game_0 1 rfl rfl)
theorem dX0_game_2 : decode cX0_game 2 = .ok (.i2l, 1) := dk_133 (dk_at dksX0_game_0 2 rfl rfl)
theorem dX0_game_3 : decode cX0_game 3 = .ok (.lconst 0, 1) := dk_9 (dk_at dksX0_game_0 3 rfl rfl)
theorem dX0_game_4 : decode cX0_game 4 = .ok (.ldc2_w 304, 3) := dk_20 1 48 (dk_at dksX0_game_0 4 rfl rfl)
theorem dX0_game_7 : decode cX0_game 7 = .ok (.invokestatic 160, 3) := dk_184 0 160 (dk_at dksX0_game_0 7 rfl rfl)
theorem dX0_game_10 : decode cX0_game 10 = .ok (.ifCond .eq 7, 3) := dk_153 0 7 (dk_at dksX0_game_0 10 rfl rfl)
theorem dX0_game_13 : decode cX0_game 13 = .ok (.iconst 0, 1) := dk_3 (dk_at dksX0_game_0 13 rfl rfl)
theorem dX0_game_14 : decode cX0_game 14 = .ok (.goto 4, 3) := dk_167 0 4 (dk_at dksX0_game_0 14 rfl rfl)
theorem dX0_game_17 : decode cX0_game 17 = .ok (.iconst 1, 1) := dk_4 (dk_at dksX0_game_0 17 rfl rfl)
theorem dX0_game_18 : decode cX0_game 18 = .ok (.putfield 76, 3) := dk_181 0 76 (dk_at dksX0_game_0 18 rfl rfl)
theorem dX0_game_21 : decode cX0_game 21 = .ok (.aload_n 0, 1) := dk_42 (dk_at dksX0_game_0 21 rfl rfl)
theorem dX0_game_22 : decode cX0_game 22 = .ok (.getfield 76, 3) := dk_180 0 76 (dk_at dksX0_game_1 0 rfl rfl)
theorem dX0_game_25 : decode cX0_game 25 = .ok (.ifCond .le 7, 3) := dk_158 0 7 (dk_at dksX0_game_1 3 rfl rfl)
theorem dX0_game_28 : decode cX0_game 28 = .ok (.iconst (-1), 1) := dk_2 (dk_at dksX0_game_1 6 rfl rfl)
theorem dX0_game_29 : decode cX0_game 29 = .ok (.goto 16, 3) := dk_167 0 16 (dk_at dksX0_game_1 7 rfl rfl)
theorem dX0_game_32 : decode cX0_game 32 = .ok (.aload_n 0, 1) := dk_42 (dk_at dksX0_game_1 10 rfl rfl)
theorem dX0_game_33 : decode cX0_game 33 = .ok (.iconst 0, 1) := dk_3 (dk_at dksX0_game_1 11 rfl rfl)
theorem dX0_game_34 : decode cX0_game 34 = .ok (.iload_n 1, 1) := dk_27 (dk_at dksX0_game_1 12 rfl rfl)
theorem dX0_game_35 : decode cX0_game 35 = .ok (.aload_n 0, 1) := dk_42 (dk_at dksX0_game_1 13 rfl rfl)
theorem dX0_game_36 : decode cX0_game 36 = .ok (.invokevirtual 153, 3) := dk_182 0 153 (dk_at dksX0_game_1 14 rfl rfl)
theorem dX0_game_39 : decode cX0_game 39 = .ok (.getfield 240, 3) := dk_180 0 240 (dk_at dksX0_game_1 17 rfl rfl)
theorem dX0_game_42 : decode cX0_game 42 = .ok (.invokevirtual 388, 3) := dk_182 1 132 (dk_at dksX0_game_1 20 rfl rfl)
theorem dX0_game_45 : decode cX0_game 45 = .ok (.ireturn, 1) := dk_172 (dk_at dksX0_game_1 23 rfl rfl)
abbrev cX0_plays : ByteArray := prog_1_method_85_code
def yX0_plays : MethodName := ⟨RX0, "plays", "(III)I"⟩
def dkwX0_plays_5 : List UInt8 := [54, 6, 132, 7, 1, 167, 255, 171, 27, 154, 0, 9, 42, 21, 6, 181, 1, 135, 21, 5, 172]
abbrev dktX0_plays_5 : List UInt8 := dkwX0_plays_5 ++ []
def dkwX0_plays_4 : List UInt8 := [21, 5, 163, 0, 16, 167, 0, 21, 21, 8, 21, 5, 161, 0, 6, 167, 0, 11, 21, 8, 54, 5, 21, 7]
abbrev dktX0_plays_4 : List UInt8 := dkwX0_plays_4 ++ dktX0_plays_5
def dkwX0_plays_3 : List UInt8 := [29, 4, 21, 7, 120, 130, 182, 1, 132, 54, 8, 21, 6, 155, 0, 28, 21, 4, 153, 0, 13, 21, 8]
abbrev dktX0_plays_3 : List UInt8 := dkwX0_plays_3 ++ dktX0_plays_4
def dkwX0_plays_2 : List UInt8 := [163, 0, 79, 42, 27, 4, 96, 28, 21, 7, 42, 182, 0, 153, 180, 0, 157, 160, 0, 7, 29, 167, 0, 9]
abbrev dktX0_plays_2 : List UInt8 := dkwX0_plays_2 ++ dktX0_plays_3
def dkwX0_plays_1 : List UInt8 := [167, 0, 4, 3, 54, 4, 3, 54, 5, 2, 54, 6, 3, 54, 7, 21, 7, 42, 182, 0, 153, 180, 0, 157]
abbrev dktX0_plays_1 : List UInt8 := dkwX0_plays_1 ++ dktX0_plays_2
def dkwX0_plays_0 : List UInt8 := [27, 28, 160, 0, 15, 42, 182, 0, 153, 29, 182, 1, 62, 184, 1, 33, 172, 27, 5, 112, 154, 0, 7, 4]
abbrev dktX0_plays_0 : List UInt8 := dkwX0_plays_0 ++ dktX0_plays_1
theorem dksX0_plays_0 : cX0_plays.data.toList.drop 0 = dktX0_plays_0 := by decide +kernel
theorem dksX0_plays_1 : cX0_plays.data.toList.drop 24 = dktX0_plays_1 := dk_seg dksX0_plays_0 24 rfl rfl
theorem dksX0_plays_2 : cX0_plays.data.toList.drop 48 = dktX0_plays_2 := dk_seg dksX0_plays_1 24 rfl rfl
theorem dksX0_plays_3 : cX0_plays.data.toList.drop 72 = dktX0_plays_3 := dk_seg dksX0_plays_2 24 rfl rfl
theorem dksX0_plays_4 : cX0_plays.data.toList.drop 95 = dktX0_plays_4 := dk_seg dksX0_plays_3 23 rfl rfl
theorem dksX0_plays_5 : cX0_plays.data.toList.drop 119 = dktX0_plays_5 := dk_seg dksX0_plays_4 24 rfl rfl
theorem dX0_plays_0 : decode cX0_plays 0 = .ok (.iload_n 1, 1) := dk_27 (dk_at dksX0_plays_0 0 rfl rfl)
theorem dX0_plays_1 : decode cX0_plays 1 = .ok (.iload_n 2, 1) := dk_28 (dk_at dksX0_plays_0 1 rfl rfl)
theorem dX0_plays_2 : decode cX0_plays 2 = .ok (.if_icmp .ne 15, 3) := dk_160 0 15 (dk_at dksX0_plays_0 2 rfl rfl)
theorem dX0_plays_5 : decode cX0_plays 5 = .ok (.aload_n 0, 1) := dk_42 (dk_at dksX0_plays_0 5 rfl rfl)
theorem dX0_plays_6 : decode cX0_plays 6 = .ok (.invokevirtual 153, 3) := dk_182 0 153 (dk_at dksX0_plays_0 6 rfl rfl)
theorem dX0_plays_9 : decode cX0_plays 9 = .ok (.iload_n 3, 1) := dk_29 (dk_at dksX0_plays_0 9 rfl rfl)
theorem dX0_plays_10 : decode cX0_plays 10 = .ok (.invokevirtual 318, 3) := dk_182 1 62 (dk_at dksX0_plays_0 10 rfl rfl)
theorem dX0_plays_13 : decode cX0_plays 13 = .ok (.invokestatic 289, 3) := dk_184 1 33 (dk_at dksX0_plays_0 13 rfl rfl)
theorem dX0_plays_16 : decode cX0_plays 16 = .ok (.ireturn, 1) := dk_172 (dk_at dksX0_plays_0 16 rfl rfl)
theorem dX0_plays_17 : decode cX0_plays 17 = .ok (.iload_n 1, 1) := dk_27 (dk_at dksX0_plays_0 17 rfl rfl)
theorem dX0_plays_18 : decode cX0_plays 18 = .ok (.iconst 2, 1) := dk_5 (dk_at dksX0_plays_0 18 rfl rfl)
theorem dX0_plays_19 : decode cX0_plays 19 = .ok (.irem, 1) := dk_112 (dk_at dksX0_plays_0 19 rfl rfl)
theorem dX0_plays_20 : decode cX0_plays 20 = .ok (.ifCond .ne 7, 3) := dk_154 0 7 (dk_at dksX0_plays_0 20 rfl rfl)
theorem dX0_plays_23 : decode cX0_plays 23 = .ok (.iconst 1, 1) := dk_4 (dk_at dksX0_plays_0 23 rfl rfl)
theorem dX0_plays_24 : decode cX0_plays 24 = .ok (.goto 4, 3) := dk_167 0 4 (dk_at dksX0_plays_1 0 rfl rfl)
theorem dX0_plays_27 : decode cX0_plays 27 = .ok (.iconst 0, 1) := dk_3 (dk_at dksX0_plays_1 3 rfl rfl)
theorem dX0_plays_28 : decode cX0_plays 28 = .ok (.istore 4, 2) := dk_54 4 (dk_at dksX0_plays_1 4 rfl rfl)
theorem dX0_plays_30 : decode cX0_plays 30 = .ok (.iconst 0, 1) := dk_3 (dk_at dksX0_plays_1 6 rfl rfl)
theorem dX0_plays_31 : decode cX0_plays 31 = .ok (.istore 5, 2) := dk_54 5 (dk_at dksX0_plays_1 7 rfl rfl)
theorem dX0_plays_33 : decode cX0_plays 33 = .ok (.iconst (-1), 1) := dk_2 (dk_at dksX0_plays_1 9 rfl rfl)
theorem dX0_plays_34 : decode cX0_plays 34 = .ok (.istore 6, 2) := dk_54 6 (dk_at dksX0_plays_1 10 rfl rfl)
theorem dX0_plays_36 : decode cX0_plays 36 = .ok (.iconst 0, 1) := dk_3 (dk_at dksX0_plays_1 12 rfl rfl)
theorem dX0_plays_37 : decode cX0_plays 37 = .ok (.istore 7, 2) := dk_54 7 (dk_at dksX0_plays_1 13 rfl rfl)
theorem dX0_plays_39 : decode cX0_plays 39 = .ok (.iload 7, 2) := dk_21 7 (dk_at dksX0_plays_1 15 rfl rfl)
theorem dX0_plays_41 : decode cX0_plays 41 = .ok (.aload_n 0, 1) := dk_42 (dk_at dksX0_plays_1 17 rfl rfl)
theorem dX0_plays_42 : decode cX0_plays 42 = .ok (.invokevirtual 153, 3) := dk_182 0 153 (dk_at dksX0_plays_1 18 rfl rfl)
theorem dX0_plays_45 : decode cX0_plays 45 = .ok (.getfield 157, 3) := dk_180 0 157 (dk_at dksX0_plays_1 21 rfl rfl)
theorem dX0_plays_48 : decode cX0_plays 48 = .ok (.if_icmp .gt 79, 3) := dk_163 0 79 (dk_at dksX0_plays_2 0 rfl rfl)
theorem dX0_plays_51 : decode cX0_plays 51 = .ok (.aload_n 0, 1) := dk_42 (dk_at dksX0_plays_2 3 rfl rfl)
theorem dX0_plays_52 : decode cX0_plays 52 = .ok (.iload_n 1, 1) := dk_27 (dk_at dksX0_plays_2 4 rfl rfl)
theorem dX0_plays_53 : decode cX0_plays 53 = .ok (.iconst 1, 1) := dk_4 (dk_at dksX0_plays_2 5 rfl rfl)
theorem dX0_plays_54 : decode cX0_plays 54 = .ok (.iadd, 1) := dk_96 (dk_at dksX0_plays_2 6 rfl rfl)
theorem dX0_plays_55 : decode cX0_plays 55 = .ok (.iload_n 2, 1) := dk_28 (dk_at dksX0_plays_2 7 rfl rfl)
theorem dX0_plays_56 : decode cX0_plays 56 = .ok (.iload 7, 2) := dk_21 7 (dk_at dksX0_plays_2 8 rfl rfl)
theorem dX0_plays_58 : decode cX0_plays 58 = .ok (.aload_n 0, 1) := dk_42 (dk_at dksX0_plays_2 10 rfl rfl)
theorem dX0_plays_59 : decode cX0_plays 59 = .ok (.invokevirtual 153, 3) := dk_182 0 153 (dk_at dksX0_plays_2 11 rfl rfl)
theorem dX0_plays_62 : decode cX0_plays 62 = .ok (.getfield 157, 3) := dk_180 0 157 (dk_at dksX0_plays_2 14 rfl rfl)
theorem dX0_plays_65 : decode cX0_plays 65 = .ok (.if_icmp .ne 7, 3) := dk_160 0 7 (dk_at dksX0_plays_2 17 rfl rfl)
theorem dX0_plays_68 : decode cX0_plays 68 = .ok (.iload_n 3, 1) := dk_29 (dk_at dksX0_plays_2 20 rfl rfl)
theorem dX0_plays_69 : decode cX0_plays 69 = .ok (.goto 9, 3) := dk_167 0 9 (dk_at dksX0_plays_2 21 rfl rfl)
theorem dX0_plays_72 : decode cX0_plays 72 = .ok (.iload_n 3, 1) := dk_29 (dk_at dksX0_plays_3 0 rfl rfl)
theorem dX0_plays_73 : decode cX0_plays 73 = .ok (.iconst 1, 1) := dk_4 (dk_at dksX0_plays_3 1 rfl rfl)
theorem dX0_plays_74 : decode cX0_plays 74 = .ok (.iload 7, 2) := dk_21 7 (dk_at dksX0_plays_3 2 rfl rfl)
theorem dX0_plays_76 : decode cX0_plays 76 = .ok (.ishl, 1) := dk_120 (dk_at dksX0_plays_3 4 rfl rfl)
theorem dX0_plays_77 : decode cX0_plays 77 = .ok (.ixor, 1) := dk_130 (dk_at dksX0_plays_3 5 rfl rfl)
theorem dX0_plays_78 : decode cX0_plays 78 = .ok (.invokevirtual 388, 3) := dk_182 1 132 (dk_at dksX0_plays_3 6 rfl rfl)
theorem dX0_plays_81 : decode cX0_plays 81 = .ok (.istore 8, 2) := dk_54 8 (dk_at dksX0_plays_3 9 rfl rfl)
theorem dX0_plays_83 : decode cX0_plays 83 = .ok (.iload 6, 2) := dk_21 6 (dk_at dksX0_plays_3 11 rfl rfl)
theorem dX0_plays_85 : decode cX0_plays 85 = .ok (.ifCond .lt 28, 3) := dk_155 0 28 (dk_at dksX0_plays_3 13 rfl rfl)
theorem dX0_plays_88 : decode cX0_plays 88 = .ok (.iload 4, 2) := dk_21 4 (dk_at dksX0_plays_3 16 rfl rfl)
theorem dX0_plays_90 : decode cX0_plays 90 = .ok (.ifCond .eq 13, 3) := dk_153 0 13 (dk_at dksX0_plays_3 18 rfl rfl)
theorem dX0_plays_93 : decode cX0_plays 93 = .ok (.iload 8, 2) := dk_21 8 (dk_at dksX0_plays_3 21 rfl rfl)
theorem dX0_plays_95 : decode cX0_plays 95 = .ok (.iload 5, 2) := dk_21 5 (dk_at dksX0_plays_4 0 rfl rfl)
theorem dX0_plays_97 : decode cX0_plays 97 = .ok (.if_icmp .gt 16, 3) := dk_163 0 16 (dk_at dksX0_plays_4 2 rfl rfl)
theorem dX0_plays_100 : decode cX0_plays 100 = .ok (.goto 21, 3) := dk_167 0 21 (dk_at dksX0_plays_4 5 rfl rfl)
theorem dX0_plays_103 : decode cX0_plays 103 = .ok (.iload 8, 2) := dk_21 8 (dk_at dksX0_plays_4 8 rfl rfl)
theorem dX0_plays_105 : decode cX0_plays 105 = .ok (.iload 5, 2) := dk_21 5 (dk_at dksX0_plays_4 10 rfl rfl)
theorem dX0_plays_107 : decode cX0_plays 107 = .ok (.if_icmp .lt 6, 3) := dk_161 0 6 (dk_at dksX0_plays_4 12 rfl rfl)
theorem dX0_plays_110 : decode cX0_plays 110 = .ok (.goto 11, 3) := dk_167 0 11 (dk_at dksX0_plays_4 15 rfl rfl)
theorem dX0_plays_113 : decode cX0_plays 113 = .ok (.iload 8, 2) := dk_21 8 (dk_at dksX0_plays_4 18 rfl rfl)
theorem dX0_plays_115 : decode cX0_plays 115 = .ok (.istore 5, 2) := dk_54 5 (dk_at dksX0_plays_4 20 rfl rfl)
theorem dX0_plays_117 : decode cX0_plays 117 = .ok (.iload 7, 2) := dk_21 7 (dk_at dksX0_plays_4 22 rfl rfl)
theorem dX0_plays_119 : decode cX0_plays 119 = .ok (.istore 6, 2) := dk_54 6 (dk_at dksX0_plays_5 0 rfl rfl)
theorem dX0_plays_121 : decode cX0_plays 121 = .ok (.iinc 7 1, 3) := dk_132 7 1 (dk_at dksX0_plays_5 2 rfl rfl)
theorem dX0_plays_124 : decode cX0_plays 124 = .ok (.goto (-85), 3) := dk_167 255 171 (dk_at dksX0_plays_5 5 rfl rfl)
theorem dX0_plays_127 : decode cX0_plays 127 = .ok (.iload_n 1, 1) := dk_27 (dk_at dksX0_plays_5 8 rfl rfl)
theorem dX0_plays_128 : decode cX0_plays 128 = .ok (.ifCond .ne 9, 3) := dk_154 0 9 (dk_at dksX0_plays_5 9 rfl rfl)
theorem dX0_plays_131 : decode cX0_plays 131 = .ok (.aload_n 0, 1) := dk_42 (dk_at dksX0_plays_5 12 rfl rfl)
theorem dX0_plays_132 : decode cX0_plays 132 = .ok (.iload 6, 2) := dk_21 6 (dk_at dksX0_plays_5 13 rfl rfl)
theorem dX0_plays_134 : decode cX0_plays 134 = .ok (.putfield 391, 3) := dk_181 1 135 (dk_at dksX0_plays_5 15 rfl rfl)
theorem dX0_plays_137 : decode cX0_plays 137 = .ok (.iload 5, 2) := dk_21 5 (dk_at dksX0_plays_5 18 rfl rfl)
theorem dX0_plays_139 : decode cX0_plays 139 = .ok (.ireturn, 1) := dk_172 (dk_at dksX0_plays_5 20 rfl rfl)
abbrev cX0_moveOf : ByteArray := prog_1_method_87_code
def yX0_moveOf : MethodName := ⟨RX0, "moveOf", "(I)I"⟩
def dkwX0_moveOf_3 : List UInt8 := [172]
abbrev dktX0_moveOf_3 : List UInt8 := dkwX0_moveOf_3 ++ []
def dkwX0_moveOf_2 : List UInt8 := [180, 1, 135, 42, 182, 0, 153, 180, 0, 157, 160, 0, 7, 2, 167, 0, 7, 42, 180, 1, 135, 182, 1, 59]
abbrev dktX0_moveOf_2 : List UInt8 := dkwX0_moveOf_2 ++ dktX0_moveOf_3
def dkwX0_moveOf_1 : List UInt8 := [180, 0, 76, 158, 0, 5, 2, 172, 42, 3, 27, 42, 182, 0, 153, 180, 0, 240, 182, 1, 132, 87, 42, 42]
abbrev dktX0_moveOf_1 : List UInt8 := dkwX0_moveOf_1 ++ dktX0_moveOf_2
def dkwX0_moveOf_0 : List UInt8 := [42, 27, 133, 10, 20, 1, 48, 184, 0, 160, 153, 0, 7, 3, 167, 0, 4, 4, 181, 0, 76, 42]
abbrev dktX0_moveOf_0 : List UInt8 := dkwX0_moveOf_0 ++ dktX0_moveOf_1
theorem dksX0_moveOf_0 : cX0_moveOf.data.toList.drop 0 = dktX0_moveOf_0 := by decide +kernel
theorem dksX0_moveOf_1 : cX0_moveOf.data.toList.drop 22 = dktX0_moveOf_1 := dk_seg dksX0_moveOf_0 22 rfl rfl
theorem dksX0_moveOf_2 : cX0_moveOf.data.toList.drop 46 = dktX0_moveOf_2 := dk_seg dksX0_moveOf_1 24 rfl rfl
theorem dksX0_moveOf_3 : cX0_moveOf.data.toList.drop 70 = dktX0_moveOf_3 := dk_seg dksX0_moveOf_2 24 rfl rfl
theorem dX0_moveOf_0 : decode cX0_moveOf 0 = .ok (.aload_n 0, 1) := dk_42 (dk_at dksX0_moveOf_0 0 rfl rfl)
theorem dX0_moveOf_1 : decode cX0_moveOf 1 = .ok (.iload_n 1, 1) := dk_27 (dk_at dksX0_moveOf_0 1 rfl rfl)
theorem dX0_moveOf_2 : decode cX0_moveOf 2 = .ok (.i2l, 1) := dk_133 (dk_at dksX0_moveOf_0 2 rfl rfl)
theorem dX0_moveOf_3 : decode cX0_moveOf 3 = .ok (.lconst 1, 1) := dk_10 (dk_at dksX0_moveOf_0 3 rfl rfl)
theorem dX0_moveOf_4 : decode cX0_moveOf 4 = .ok (.ldc2_w 304, 3) := dk_20 1 48 (dk_at dksX0_moveOf_0 4 rfl rfl)
theorem dX0_moveOf_7 : decode cX0_moveOf 7 = .ok (.invokestatic 160, 3) := dk_184 0 160 (dk_at dksX0_moveOf_0 7 rfl rfl)
theorem dX0_moveOf_10 : decode cX0_moveOf 10 = .ok (.ifCond .eq 7, 3) := dk_153 0 7 (dk_at dksX0_moveOf_0 10 rfl rfl)
theorem dX0_moveOf_13 : decode cX0_moveOf 13 = .ok (.iconst 0, 1) := dk_3 (dk_at dksX0_moveOf_0 13 rfl rfl)
theorem dX0_moveOf_14 : decode cX0_moveOf 14 = .ok (.goto 4, 3) := dk_167 0 4 (dk_at dksX0_moveOf_0 14 rfl rfl)
theorem dX0_moveOf_17 : decode cX0_moveOf 17 = .ok (.iconst 1, 1) := dk_4 (dk_at dksX0_moveOf_0 17 rfl rfl)
theorem dX0_moveOf_18 : decode cX0_moveOf 18 = .ok (.putfield 76, 3) := dk_181 0 76 (dk_at dksX0_moveOf_0 18 rfl rfl)
theorem dX0_moveOf_21 : decode cX0_moveOf 21 = .ok (.aload_n 0, 1) := dk_42 (dk_at dksX0_moveOf_0 21 rfl rfl)
theorem dX0_moveOf_22 : decode cX0_moveOf 22 = .ok (.getfield 76, 3) := dk_180 0 76 (dk_at dksX0_moveOf_1 0 rfl rfl)
theorem dX0_moveOf_25 : decode cX0_moveOf 25 = .ok (.ifCond .le 5, 3) := dk_158 0 5 (dk_at dksX0_moveOf_1 3 rfl rfl)
theorem dX0_moveOf_28 : decode cX0_moveOf 28 = .ok (.iconst (-1), 1) := dk_2 (dk_at dksX0_moveOf_1 6 rfl rfl)
theorem dX0_moveOf_29 : decode cX0_moveOf 29 = .ok (.ireturn, 1) := dk_172 (dk_at dksX0_moveOf_1 7 rfl rfl)
theorem dX0_moveOf_30 : decode cX0_moveOf 30 = .ok (.aload_n 0, 1) := dk_42 (dk_at dksX0_moveOf_1 8 rfl rfl)
theorem dX0_moveOf_31 : decode cX0_moveOf 31 = .ok (.iconst 0, 1) := dk_3 (dk_at dksX0_moveOf_1 9 rfl rfl)
theorem dX0_moveOf_32 : decode cX0_moveOf 32 = .ok (.iload_n 1, 1) := dk_27 (dk_at dksX0_moveOf_1 10 rfl rfl)
theorem dX0_moveOf_33 : decode cX0_moveOf 33 = .ok (.aload_n 0, 1) := dk_42 (dk_at dksX0_moveOf_1 11 rfl rfl)
theorem dX0_moveOf_34 : decode cX0_moveOf 34 = .ok (.invokevirtual 153, 3) := dk_182 0 153 (dk_at dksX0_moveOf_1 12 rfl rfl)
theorem dX0_moveOf_37 : decode cX0_moveOf 37 = .ok (.getfield 240, 3) := dk_180 0 240 (dk_at dksX0_moveOf_1 15 rfl rfl)
theorem dX0_moveOf_40 : decode cX0_moveOf 40 = .ok (.invokevirtual 388, 3) := dk_182 1 132 (dk_at dksX0_moveOf_1 18 rfl rfl)
theorem dX0_moveOf_43 : decode cX0_moveOf 43 = .ok (.pop, 1) := dk_87 (dk_at dksX0_moveOf_1 21 rfl rfl)
theorem dX0_moveOf_44 : decode cX0_moveOf 44 = .ok (.aload_n 0, 1) := dk_42 (dk_at dksX0_moveOf_1 22 rfl rfl)
theorem dX0_moveOf_45 : decode cX0_moveOf 45 = .ok (.aload_n 0, 1) := dk_42 (dk_at dksX0_moveOf_1 23 rfl rfl)
theorem dX0_moveOf_46 : decode cX0_moveOf 46 = .ok (.getfield 391, 3) := dk_180 1 135 (dk_at dksX0_moveOf_2 0 rfl rfl)
theorem dX0_moveOf_49 : decode cX0_moveOf 49 = .ok (.aload_n 0, 1) := dk_42 (dk_at dksX0_moveOf_2 3 rfl rfl)
theorem dX0_moveOf_50 : decode cX0_moveOf 50 = .ok (.invokevirtual 153, 3) := dk_182 0 153 (dk_at dksX0_moveOf_2 4 rfl rfl)
theorem dX0_moveOf_53 : decode cX0_moveOf 53 = .ok (.getfield 157, 3) := dk_180 0 157 (dk_at dksX0_moveOf_2 7 rfl rfl)
theorem dX0_moveOf_56 : decode cX0_moveOf 56 = .ok (.if_icmp .ne 7, 3) := dk_160 0 7 (dk_at dksX0_moveOf_2 10 rfl rfl)
theorem dX0_moveOf_59 : decode cX0_moveOf 59 = .ok (.iconst (-1), 1) := dk_2 (dk_at dksX0_moveOf_2 13 rfl rfl)
theorem dX0_moveOf_60 : decode cX0_moveOf 60 = .ok (.goto 7, 3) := dk_167 0 7 (dk_at dksX0_moveOf_2 14 rfl rfl)
theorem dX0_moveOf_63 : decode cX0_moveOf 63 = .ok (.aload_n 0, 1) := dk_42 (dk_at dksX0_moveOf_2 17 rfl rfl)
theorem dX0_moveOf_64 : decode cX0_moveOf 64 = .ok (.getfield 391, 3) := dk_180 1 135 (dk_at dksX0_moveOf_2 18 rfl rfl)
theorem dX0_moveOf_67 : decode cX0_moveOf 67 = .ok (.invokevirtual 315, 3) := dk_182 1 59 (dk_at dksX0_moveOf_2 21 rfl rfl)
theorem dX0_moveOf_70 : decode cX0_moveOf 70 = .ok (.ireturn, 1) := dk_172 (dk_at dksX0_moveOf_3 0 rfl rfl)
abbrev cX0_tides : ByteArray := prog_1_method_88_code
def yX0_tides : MethodName := ⟨RX0, "tides", "(II)Z"⟩
def dkwX0_tides_9 : List UInt8 := [172]
abbrev dktX0_tides_9 : List UInt8 := dkwX0_tides_9 ++ []
def dkwX0_tides_8 : List UInt8 := [180, 0, 70, 21, 7, 47, 97, 55, 5, 132, 7, 1, 167, 255, 234, 42, 22, 5, 33, 182, 1, 140, 87, 4]
abbrev dktX0_tides_8 : List UInt8 := dkwX0_tides_8 ++ dktX0_tides_9
def dkwX0_tides_7 : List UInt8 := [132, 5, 1, 167, 255, 172, 9, 55, 5, 28, 54, 7, 21, 7, 16, 12, 163, 0, 21, 22, 5, 42]
abbrev dktX0_tides_7 : List UInt8 := dkwX0_tides_7 ++ dktX0_tides_8
def dkwX0_tides_6 : List UInt8 := [42, 182, 0, 153, 180, 0, 234, 133, 105, 97, 80, 132, 6, 255, 167, 255, 194, 33, 20, 1, 50, 105, 66]
abbrev dktX0_tides_6 : List UInt8 := dkwX0_tides_6 ++ dktX0_tides_7
def dkwX0_tides_5 : List UInt8 := [180, 0, 234, 100, 133, 105, 21, 6, 154, 0, 7, 9, 167, 0, 21, 42, 180, 0, 70, 21, 6, 4, 100, 47]
abbrev dktX0_tides_5 : List UInt8 := dkwX0_tides_5 ++ dktX0_tides_6
def dkwX0_tides_4 : List UInt8 := [155, 0, 63, 42, 180, 0, 70, 21, 6, 42, 180, 0, 70, 21, 6, 47, 16, 16, 42, 182, 0, 153]
abbrev dktX0_tides_4 : List UInt8 := dkwX0_tides_4 ++ dktX0_tides_5
def dkwX0_tides_3 : List UInt8 := [9, 80, 132, 5, 1, 167, 255, 229, 3, 54, 5, 21, 5, 27, 162, 0, 84, 16, 12, 54, 6, 21, 6]
abbrev dktX0_tides_3 : List UInt8 := dkwX0_tides_3 ++ dktX0_tides_4
def dkwX0_tides_2 : List UInt8 := [54, 5, 21, 5, 16, 12, 163, 0, 26, 42, 180, 0, 70, 21, 5, 21, 5, 154, 0, 7, 10, 167, 0, 4]
abbrev dktX0_tides_2 : List UInt8 := dkwX0_tides_2 ++ dktX0_tides_3
def dkwX0_tides_1 : List UInt8 := [153, 0, 7, 3, 167, 0, 4, 4, 181, 0, 76, 42, 180, 0, 76, 158, 0, 5, 3, 172, 10, 66, 3]
abbrev dktX0_tides_1 : List UInt8 := dkwX0_tides_1 ++ dktX0_tides_2
def dkwX0_tides_0 : List UInt8 := [42, 27, 133, 9, 20, 1, 138, 184, 0, 160, 153, 0, 19, 28, 133, 9, 20, 1, 138, 184, 0, 160]
abbrev dktX0_tides_0 : List UInt8 := dkwX0_tides_0 ++ dktX0_tides_1
theorem dksX0_tides_0 : cX0_tides.data.toList.drop 0 = dktX0_tides_0 := by decide +kernel
theorem dksX0_tides_1 : cX0_tides.data.toList.drop 22 = dktX0_tides_1 := dk_seg dksX0_tides_0 22 rfl rfl
theorem dksX0_tides_2 : cX0_tides.data.toList.drop 45 = dktX0_tides_2 := dk_seg dksX0_tides_1 23 rfl rfl
theorem dksX0_tides_3 : cX0_tides.data.toList.drop 69 = dktX0_tides_3 := dk_seg dksX0_tides_2 24 rfl rfl
theorem dksX0_tides_4 : cX0_tides.data.toList.drop 92 = dktX0_tides_4 := dk_seg dksX0_tides_3 23 rfl rfl
theorem dksX0_tides_5 : cX0_tides.data.toList.drop 114 = dktX0_tides_5 := dk_seg dksX0_tides_4 22 rfl rfl
theorem dksX0_tides_6 : cX0_tides.data.toList.drop 138 = dktX0_tides_6 := dk_seg dksX0_tides_5 24 rfl rfl
theorem dksX0_tides_7 : cX0_tides.data.toList.drop 161 = dktX0_tides_7 := dk_seg dksX0_tides_6 23 rfl rfl
theorem dksX0_tides_8 : cX0_tides.data.toList.drop 183 = dktX0_tides_8 := dk_seg dksX0_tides_7 22 rfl rfl
theorem dksX0_tides_9 : cX0_tides.data.toList.drop 207 = dktX0_tides_9 := dk_seg dksX0_tides_8 24 rfl rfl
theorem dX0_tides_0 : decode cX0_tides 0 = .ok (.aload_n 0, 1) := dk_42 (dk_at dksX0_tides_0 0 rfl rfl)
theorem dX0_tides_1 : decode cX0_tides 1 = .ok (.iload_n 1, 1) := dk_27 (dk_at dksX0_tides_0 1 rfl rfl)
theorem dX0_tides_2 : decode cX0_tides 2 = .ok (.i2l, 1) := dk_133 (dk_at dksX0_tides_0 2 rfl rfl)
theorem dX0_tides_3 : decode cX0_tides 3 = .ok (.lconst 0, 1) := dk_9 (dk_at dksX0_tides_0 3 rfl rfl)
theorem dX0_tides_4 : decode cX0_tides 4 = .ok (.ldc2_w 394, 3) := dk_20 1 138 (dk_at dksX0_tides_0 4 rfl rfl)
theorem dX0_tides_7 : decode cX0_tides 7 = .ok (.invokestatic 160, 3) := dk_184 0 160 (dk_at dksX0_tides_0 7 rfl rfl)
theorem dX0_tides_10 : decode cX0_tides 10 = .ok (.ifCond .eq 19, 3) := dk_153 0 19 (dk_at dksX0_tides_0 10 rfl rfl)
theorem dX0_tides_13 : decode cX0_tides 13 = .ok (.iload_n 2, 1) := dk_28 (dk_at dksX0_tides_0 13 rfl rfl)
theorem dX0_tides_14 : decode cX0_tides 14 = .ok (.i2l, 1) := dk_133 (dk_at dksX0_tides_0 14 rfl rfl)
theorem dX0_tides_15 : decode cX0_tides 15 = .ok (.lconst 0, 1) := dk_9 (dk_at dksX0_tides_0 15 rfl rfl)
theorem dX0_tides_16 : decode cX0_tides 16 = .ok (.ldc2_w 394, 3) := dk_20 1 138 (dk_at dksX0_tides_0 16 rfl rfl)
theorem dX0_tides_19 : decode cX0_tides 19 = .ok (.invokestatic 160, 3) := dk_184 0 160 (dk_at dksX0_tides_0 19 rfl rfl)
theorem dX0_tides_22 : decode cX0_tides 22 = .ok (.ifCond .eq 7, 3) := dk_153 0 7 (dk_at dksX0_tides_1 0 rfl rfl)
theorem dX0_tides_25 : decode cX0_tides 25 = .ok (.iconst 0, 1) := dk_3 (dk_at dksX0_tides_1 3 rfl rfl)
theorem dX0_tides_26 : decode cX0_tides 26 = .ok (.goto 4, 3) := dk_167 0 4 (dk_at dksX0_tides_1 4 rfl rfl)
theorem dX0_tides_29 : decode cX0_tides 29 = .ok (.iconst 1, 1) := dk_4 (dk_at dksX0_tides_1 7 rfl rfl)
theorem dX0_tides_30 : decode cX0_tides 30 = .ok (.putfield 76, 3) := dk_181 0 76 (dk_at dksX0_tides_1 8 rfl rfl)
theorem dX0_tides_33 : decode cX0_tides 33 = .ok (.aload_n 0, 1) := dk_42 (dk_at dksX0_tides_1 11 rfl rfl)
theorem dX0_tides_34 : decode cX0_tides 34 = .ok (.getfield 76, 3) := dk_180 0 76 (dk_at dksX0_tides_1 12 rfl rfl)
theorem dX0_tides_37 : decode cX0_tides 37 = .ok (.ifCond .le 5, 3) := dk_158 0 5 (dk_at dksX0_tides_1 15 rfl rfl)
theorem dX0_tides_40 : decode cX0_tides 40 = .ok (.iconst 0, 1) := dk_3 (dk_at dksX0_tides_1 18 rfl rfl)
theorem dX0_tides_41 : decode cX0_tides 41 = .ok (.ireturn, 1) := dk_172 (dk_at dksX0_tides_1 19 rfl rfl)
theorem dX0_tides_42 : decode cX0_tides 42 = .ok (.lconst 1, 1) := dk_10 (dk_at dksX0_tides_1 20 rfl rfl)
theorem dX0_tides_43 : decode cX0_tides 43 = .ok (.lstore_n 3, 1) := dk_66 (dk_at dksX0_tides_1 21 rfl rfl)
theorem dX0_tides_44 : decode cX0_tides 44 = .ok (.iconst 0, 1) := dk_3 (dk_at dksX0_tides_1 22 rfl rfl)
theorem dX0_tides_45 : decode cX0_tides 45 = .ok (.istore 5, 2) := dk_54 5 (dk_at dksX0_tides_2 0 rfl rfl)
theorem dX0_tides_47 : decode cX0_tides 47 = .ok (.iload 5, 2) := dk_21 5 (dk_at dksX0_tides_2 2 rfl rfl)
theorem dX0_tides_49 : decode cX0_tides 49 = .ok (.bipush 12, 2) := dk_16 12 (dk_at dksX0_tides_2 4 rfl rfl)
theorem dX0_tides_51 : decode cX0_tides 51 = .ok (.if_icmp .gt 26, 3) := dk_163 0 26 (dk_at dksX0_tides_2 6 rfl rfl)
theorem dX0_tides_54 : decode cX0_tides 54 = .ok (.aload_n 0, 1) := dk_42 (dk_at dksX0_tides_2 9 rfl rfl)
theorem dX0_tides_55 : decode cX0_tides 55 = .ok (.getfield 70, 3) := dk_180 0 70 (dk_at dksX0_tides_2 10 rfl rfl)
theorem dX0_tides_58 : decode cX0_tides 58 = .ok (.iload 5, 2) := dk_21 5 (dk_at dksX0_tides_2 13 rfl rfl)
theorem dX0_tides_60 : decode cX0_tides 60 = .ok (.iload 5, 2) := dk_21 5 (dk_at dksX0_tides_2 15 rfl rfl)
theorem dX0_tides_62 : decode cX0_tides 62 = .ok (.ifCond .ne 7, 3) := dk_154 0 7 (dk_at dksX0_tides_2 17 rfl rfl)
theorem dX0_tides_65 : decode cX0_tides 65 = .ok (.lconst 1, 1) := dk_10 (dk_at dksX0_tides_2 20 rfl rfl)
theorem dX0_tides_66 : decode cX0_tides 66 = .ok (.goto 4, 3) := dk_167 0 4 (dk_at dksX0_tides_2 21 rfl rfl)
theorem dX0_tides_69 : decode cX0_tides 69 = .ok (.lconst 0, 1) := dk_9 (dk_at dksX0_tides_3 0 rfl rfl)
theorem dX0_tides_70 : decode cX0_tides 70 = .ok (.lastore, 1) := dk_80 (dk_at dksX0_tides_3 1 rfl rfl)
theorem dX0_tides_71 : decode cX0_tides 71 = .ok (.iinc 5 1, 3) := dk_132 5 1 (dk_at dksX0_tides_3 2 rfl rfl)
theorem dX0_tides_74 : decode cX0_tides 74 = .ok (.goto (-27), 3) := dk_167 255 229 (dk_at dksX0_tides_3 5 rfl rfl)
theorem dX0_tides_77 : decode cX0_tides 77 = .ok (.iconst 0, 1) := dk_3 (dk_at dksX0_tides_3 8 rfl rfl)
theorem dX0_tides_78 : decode cX0_tides 78 = .ok (.istore 5, 2) := dk_54 5 (dk_at dksX0_tides_3 9 rfl rfl)
theorem dX0_tides_80 : decode cX0_tides 80 = .ok (.iload 5, 2) := dk_21 5 (dk_at dksX0_tides_3 11 rfl rfl)
theorem dX0_tides_82 : decode cX0_tides 82 = .ok (.iload_n 1, 1) := dk_27 (dk_at dksX0_tides_3 13 rfl rfl)
theorem dX0_tides_83 : decode cX0_tides 83 = .ok (.if_icmp .ge 84, 3) := dk_162 0 84 (dk_at dksX0_tides_3 14 rfl rfl)
theorem dX0_tides_86 : decode cX0_tides 86 = .ok (.bipush 12, 2) := dk_16 12 (dk_at dksX0_tides_3 17 rfl rfl)
theorem dX0_tides_88 : decode cX0_tides 88 = .ok (.istore 6, 2) := dk_54 6 (dk_at dksX0_tides_3 19 rfl rfl)
theorem dX0_tides_90 : decode cX0_tides 90 = .ok (.iload 6, 2) := dk_21 6 (dk_at dksX0_tides_3 21 rfl rfl)
theorem dX0_tides_92 : decode cX0_tides 92 = .ok (.ifCond .lt 63, 3) := dk_155 0 63 (dk_at dksX0_tides_4 0 rfl rfl)
theorem dX0_tides_95 : decode cX0_tides 95 = .ok (.aload_n 0, 1) := dk_42 (dk_at dksX0_tides_4 3 rfl rfl)
theorem dX0_tides_96 : decode cX0_tides 96 = .ok (.getfield 70, 3) := dk_180 0 70 (dk_at dksX0_tides_4 4 rfl rfl)
theorem dX0_tides_99 : decode cX0_tides 99 = .ok (.iload 6, 2) := dk_21 6 (dk_at dksX0_tides_4 7 rfl rfl)
theorem dX0_tides_101 : decode cX0_tides 101 = .ok (.aload_n 0, 1) := dk_42 (dk_at dksX0_tides_4 9 rfl rfl)
theorem dX0_tides_102 : decode cX0_tides 102 = .ok (.getfield 70, 3) := dk_180 0 70 (dk_at dksX0_tides_4 10 rfl rfl)
theorem dX0_tides_105 : decode cX0_tides 105 = .ok (.iload 6, 2) := dk_21 6 (dk_at dksX0_tides_4 13 rfl rfl)
theorem dX0_tides_107 : decode cX0_tides 107 = .ok (.laload, 1) := dk_47 (dk_at dksX0_tides_4 15 rfl rfl)
theorem dX0_tides_108 : decode cX0_tides 108 = .ok (.bipush 16, 2) := dk_16 16 (dk_at dksX0_tides_4 16 rfl rfl)
theorem dX0_tides_110 : decode cX0_tides 110 = .ok (.aload_n 0, 1) := dk_42 (dk_at dksX0_tides_4 18 rfl rfl)
theorem dX0_tides_111 : decode cX0_tides 111 = .ok (.invokevirtual 153, 3) := dk_182 0 153 (dk_at dksX0_tides_4 19 rfl rfl)
theorem dX0_tides_114 : decode cX0_tides 114 = .ok (.getfield 234, 3) := dk_180 0 234 (dk_at dksX0_tides_5 0 rfl rfl)
theorem dX0_tides_117 : decode cX0_tides 117 = .ok (.isub, 1) := dk_100 (dk_at dksX0_tides_5 3 rfl rfl)
theorem dX0_tides_118 : decode cX0_tides 118 = .ok (.i2l, 1) := dk_133 (dk_at dksX0_tides_5 4 rfl rfl)
theorem dX0_tides_119 : decode cX0_tides 119 = .ok (.lmul, 1) := dk_105 (dk_at dksX0_tides_5 5 rfl rfl)
theorem dX0_tides_120 : decode cX0_tides 120 = .ok (.iload 6, 2) := dk_21 6 (dk_at dksX0_tides_5 6 rfl rfl)
theorem dX0_tides_122 : decode cX0_tides 122 = .ok (.ifCond .ne 7, 3) := dk_154 0 7 (dk_at dksX0_tides_5 8 rfl rfl)
theorem dX0_tides_125 : decode cX0_tides 125 = .ok (.lconst 0, 1) := dk_9 (dk_at dksX0_tides_5 11 rfl rfl)
theorem dX0_tides_126 : decode cX0_tides 126 = .ok (.goto 21, 3) := dk_167 0 21 (dk_at dksX0_tides_5 12 rfl rfl)
theorem dX0_tides_129 : decode cX0_tides 129 = .ok (.aload_n 0, 1) := dk_42 (dk_at dksX0_tides_5 15 rfl rfl)
theorem dX0_tides_130 : decode cX0_tides 130 = .ok (.getfield 70, 3) := dk_180 0 70 (dk_at dksX0_tides_5 16 rfl rfl)
theorem dX0_tides_133 : decode cX0_tides 133 = .ok (.iload 6, 2) := dk_21 6 (dk_at dksX0_tides_5 19 rfl rfl)
theorem dX0_tides_135 : decode cX0_tides 135 = .ok (.iconst 1, 1) := dk_4 (dk_at dksX0_tides_5 21 rfl rfl)
theorem dX0_tides_136 : decode cX0_tides 136 = .ok (.isub, 1) := dk_100 (dk_at dksX0_tides_5 22 rfl rfl)
theorem dX0_tides_137 : decode cX0_tides 137 = .ok (.laload, 1) := dk_47 (dk_at dksX0_tides_5 23 rfl rfl)
theorem dX0_tides_138 : decode cX0_tides 138 = .ok (.aload_n 0, 1) := dk_42 (dk_at dksX0_tides_6 0 rfl rfl)
theorem dX0_tides_139 : decode cX0_tides 139 = .ok (.invokevirtual 153, 3) := dk_182 0 153 (dk_at dksX0_tides_6 1 rfl rfl)
theorem dX0_tides_142 : decode cX0_tides 142 = .ok (.getfield 234, 3) := dk_180 0 234 (dk_at dksX0_tides_6 4 rfl rfl)
theorem dX0_tides_145 : decode cX0_tides 145 = .ok (.i2l, 1) := dk_133 (dk_at dksX0_tides_6 7 rfl rfl)
theorem dX0_tides_146 : decode cX0_tides 146 = .ok (.lmul, 1) := dk_105 (dk_at dksX0_tides_6 8 rfl rfl)
theorem dX0_tides_147 : decode cX0_tides 147 = .ok (.ladd, 1) := dk_97 (dk_at dksX0_tides_6 9 rfl rfl)
theorem dX0_tides_148 : decode cX0_tides 148 = .ok (.lastore, 1) := dk_80 (dk_at dksX0_tides_6 10 rfl rfl)
theorem dX0_tides_149 : decode cX0_tides 149 = .ok (.iinc 6 (-1), 3) := dk_132 6 255 (dk_at dksX0_tides_6 11 rfl rfl)
theorem dX0_tides_152 : decode cX0_tides 152 = .ok (.goto (-62), 3) := dk_167 255 194 (dk_at dksX0_tides_6 14 rfl rfl)
theorem dX0_tides_155 : decode cX0_tides 155 = .ok (.lload_n 3, 1) := dk_33 (dk_at dksX0_tides_6 17 rfl rfl)
theorem dX0_tides_156 : decode cX0_tides 156 = .ok (.ldc2_w 306, 3) := dk_20 1 50 (dk_at dksX0_tides_6 18 rfl rfl)
theorem dX0_tides_159 : decode cX0_tides 159 = .ok (.lmul, 1) := dk_105 (dk_at dksX0_tides_6 21 rfl rfl)
theorem dX0_tides_160 : decode cX0_tides 160 = .ok (.lstore_n 3, 1) := dk_66 (dk_at dksX0_tides_6 22 rfl rfl)
theorem dX0_tides_161 : decode cX0_tides 161 = .ok (.iinc 5 1, 3) := dk_132 5 1 (dk_at dksX0_tides_7 0 rfl rfl)
theorem dX0_tides_164 : decode cX0_tides 164 = .ok (.goto (-84), 3) := dk_167 255 172 (dk_at dksX0_tides_7 3 rfl rfl)
theorem dX0_tides_167 : decode cX0_tides 167 = .ok (.lconst 0, 1) := dk_9 (dk_at dksX0_tides_7 6 rfl rfl)
theorem dX0_tides_168 : decode cX0_tides 168 = .ok (.lstore 5, 2) := dk_55 5 (dk_at dksX0_tides_7 7 rfl rfl)
theorem dX0_tides_170 : decode cX0_tides 170 = .ok (.iload_n 2, 1) := dk_28 (dk_at dksX0_tides_7 9 rfl rfl)
theorem dX0_tides_171 : decode cX0_tides 171 = .ok (.istore 7, 2) := dk_54 7 (dk_at dksX0_tides_7 10 rfl rfl)
theorem dX0_tides_173 : decode cX0_tides 173 = .ok (.iload 7, 2) := dk_21 7 (dk_at dksX0_tides_7 12 rfl rfl)
theorem dX0_tides_175 : decode cX0_tides 175 = .ok (.bipush 12, 2) := dk_16 12 (dk_at dksX0_tides_7 14 rfl rfl)
theorem dX0_tides_177 : decode cX0_tides 177 = .ok (.if_icmp .gt 21, 3) := dk_163 0 21 (dk_at dksX0_tides_7 16 rfl rfl)
theorem dX0_tides_180 : decode cX0_tides 180 = .ok (.lload 5, 2) := dk_22 5 (dk_at dksX0_tides_7 19 rfl rfl)
theorem dX0_tides_182 : decode cX0_tides 182 = .ok (.aload_n 0, 1) := dk_42 (dk_at dksX0_tides_7 21 rfl rfl)
theorem dX0_tides_183 : decode cX0_tides 183 = .ok (.getfield 70, 3) := dk_180 0 70 (dk_at dksX0_tides_8 0 rfl rfl)
theorem dX0_tides_186 : decode cX0_tides 186 = .ok (.iload 7, 2) := dk_21 7 (dk_at dksX0_tides_8 3 rfl rfl)
theorem dX0_tides_188 : decode cX0_tides 188 = .ok (.laload, 1) := dk_47 (dk_at dksX0_tides_8 5 rfl rfl)
theorem dX0_tides_189 : decode cX0_tides 189 = .ok (.ladd, 1) := dk_97 (dk_at dksX0_tides_8 6 rfl rfl)
theorem dX0_tides_190 : decode cX0_tides 190 = .ok (.lstore 5, 2) := dk_55 5 (dk_at dksX0_tides_8 7 rfl rfl)
theorem dX0_tides_192 : decode cX0_tides 192 = .ok (.iinc 7 1, 3) := dk_132 7 1 (dk_at dksX0_tides_8 9 rfl rfl)
theorem dX0_tides_195 : decode cX0_tides 195 = .ok (.goto (-22), 3) := dk_167 255 234 (dk_at dksX0_tides_8 12 rfl rfl)
theorem dX0_tides_198 : decode cX0_tides 198 = .ok (.aload_n 0, 1) := dk_42 (dk_at dksX0_tides_8 15 rfl rfl)
theorem dX0_tides_199 : decode cX0_tides 199 = .ok (.lload 5, 2) := dk_22 5 (dk_at dksX0_tides_8 16 rfl rfl)
theorem dX0_tides_201 : decode cX0_tides 201 = .ok (.lload_n 3, 1) := dk_33 (dk_at dksX0_tides_8 18 rfl rfl)
theorem dX0_tides_202 : decode cX0_tides 202 = .ok (.invokevirtual 396, 3) := dk_182 1 140 (dk_at dksX0_tides_8 19 rfl rfl)
theorem dX0_tides_205 : decode cX0_tides 205 = .ok (.pop, 1) := dk_87 (dk_at dksX0_tides_8 22 rfl rfl)
theorem dX0_tides_206 : decode cX0_tides 206 = .ok (.iconst 1, 1) := dk_4 (dk_at dksX0_tides_8 23 rfl rfl)
theorem dX0_tides_207 : decode cX0_tides 207 = .ok (.ireturn, 1) := dk_172 (dk_at dksX0_tides_9 0 rfl rfl)
abbrev cX0_fraction : ByteArray := prog_1_method_14_code
def yX0_fraction : MethodName := ⟨RX0, "fraction", "(JJ)I"⟩
def dkwX0_fraction_2 : List UInt8 := [181, 0, 48, 31, 184, 0, 95, 172]
abbrev dktX0_fraction_2 : List UInt8 := dkwX0_fraction_2 ++ []
def dkwX0_fraction_1 : List UInt8 := [22, 7, 55, 5, 22, 9, 55, 7, 167, 255, 234, 42, 31, 22, 5, 109, 181, 0, 79, 42, 33, 22, 5, 109]
abbrev dktX0_fraction_1 : List UInt8 := dkwX0_fraction_1 ++ dktX0_fraction_2
def dkwX0_fraction_0 : List UInt8 := [31, 184, 0, 89, 55, 5, 33, 55, 7, 22, 7, 9, 148, 153, 0, 21, 22, 5, 22, 7, 113, 55, 9]
abbrev dktX0_fraction_0 : List UInt8 := dkwX0_fraction_0 ++ dktX0_fraction_1
theorem dksX0_fraction_0 : cX0_fraction.data.toList.drop 0 = dktX0_fraction_0 := by decide +kernel
theorem dksX0_fraction_1 : cX0_fraction.data.toList.drop 23 = dktX0_fraction_1 := dk_seg dksX0_fraction_0 23 rfl rfl
theorem dksX0_fraction_2 : cX0_fraction.data.toList.drop 47 = dktX0_fraction_2 := dk_seg dksX0_fraction_1 24 rfl rfl
theorem dX0_fraction_0 : decode cX0_fraction 0 = .ok (.lload_n 1, 1) := dk_31 (dk_at dksX0_fraction_0 0 rfl rfl)
theorem dX0_fraction_1 : decode cX0_fraction 1 = .ok (.invokestatic 89, 3) := dk_184 0 89 (dk_at dksX0_fraction_0 1 rfl rfl)
theorem dX0_fraction_4 : decode cX0_fraction 4 = .ok (.lstore 5, 2) := dk_55 5 (dk_at dksX0_fraction_0 4 rfl rfl)
theorem dX0_fraction_6 : decode cX0_fraction 6 = .ok (.lload_n 3, 1) := dk_33 (dk_at dksX0_fraction_0 6 rfl rfl)
theorem dX0_fraction_7 : decode cX0_fraction 7 = .ok (.lstore 7, 2) := dk_55 7 (dk_at dksX0_fraction_0 7 rfl rfl)
theorem dX0_fraction_9 : decode cX0_fraction 9 = .ok (.lload 7, 2) := dk_22 7 (dk_at dksX0_fraction_0 9 rfl rfl)
theorem dX0_fraction_11 : decode cX0_fraction 11 = .ok (.lconst 0, 1) := dk_9 (dk_at dksX0_fraction_0 11 rfl rfl)
theorem dX0_fraction_12 : decode cX0_fraction 12 = .ok (.lcmp, 1) := dk_148 (dk_at dksX0_fraction_0 12 rfl rfl)
theorem dX0_fraction_13 : decode cX0_fraction 13 = .ok (.ifCond .eq 21, 3) := dk_153 0 21 (dk_at dksX0_fraction_0 13 rfl rfl)
theorem dX0_fraction_16 : decode cX0_fraction 16 = .ok (.lload 5, 2) := dk_22 5 (dk_at dksX0_fraction_0 16 rfl rfl)
theorem dX0_fraction_18 : decode cX0_fraction 18 = .ok (.lload 7, 2) := dk_22 7 (dk_at dksX0_fraction_0 18 rfl rfl)
theorem dX0_fraction_20 : decode cX0_fraction 20 = .ok (.lrem, 1) := dk_113 (dk_at dksX0_fraction_0 20 rfl rfl)
theorem dX0_fraction_21 : decode cX0_fraction 21 = .ok (.lstore 9, 2) := dk_55 9 (dk_at dksX0_fraction_0 21 rfl rfl)
theorem dX0_fraction_23 : decode cX0_fraction 23 = .ok (.lload 7, 2) := dk_22 7 (dk_at dksX0_fraction_1 0 rfl rfl)
theorem dX0_fraction_25 : decode cX0_fraction 25 = .ok (.lstore 5, 2) := dk_55 5 (dk_at dksX0_fraction_1 2 rfl rfl)
theorem dX0_fraction_27 : decode cX0_fraction 27 = .ok (.lload 9, 2) := dk_22 9 (dk_at dksX0_fraction_1 4 rfl rfl)
theorem dX0_fraction_29 : decode cX0_fraction 29 = .ok (.lstore 7, 2) := dk_55 7 (dk_at dksX0_fraction_1 6 rfl rfl)
theorem dX0_fraction_31 : decode cX0_fraction 31 = .ok (.goto (-22), 3) := dk_167 255 234 (dk_at dksX0_fraction_1 8 rfl rfl)
theorem dX0_fraction_34 : decode cX0_fraction 34 = .ok (.aload_n 0, 1) := dk_42 (dk_at dksX0_fraction_1 11 rfl rfl)
theorem dX0_fraction_35 : decode cX0_fraction 35 = .ok (.lload_n 1, 1) := dk_31 (dk_at dksX0_fraction_1 12 rfl rfl)
theorem dX0_fraction_36 : decode cX0_fraction 36 = .ok (.lload 5, 2) := dk_22 5 (dk_at dksX0_fraction_1 13 rfl rfl)
theorem dX0_fraction_38 : decode cX0_fraction 38 = .ok (.ldiv, 1) := dk_109 (dk_at dksX0_fraction_1 15 rfl rfl)
theorem dX0_fraction_39 : decode cX0_fraction 39 = .ok (.putfield 79, 3) := dk_181 0 79 (dk_at dksX0_fraction_1 16 rfl rfl)
theorem dX0_fraction_42 : decode cX0_fraction 42 = .ok (.aload_n 0, 1) := dk_42 (dk_at dksX0_fraction_1 19 rfl rfl)
theorem dX0_fraction_43 : decode cX0_fraction 43 = .ok (.lload_n 3, 1) := dk_33 (dk_at dksX0_fraction_1 20 rfl rfl)
theorem dX0_fraction_44 : decode cX0_fraction 44 = .ok (.lload 5, 2) := dk_22 5 (dk_at dksX0_fraction_1 21 rfl rfl)
theorem dX0_fraction_46 : decode cX0_fraction 46 = .ok (.ldiv, 1) := dk_109 (dk_at dksX0_fraction_1 23 rfl rfl)
theorem dX0_fraction_47 : decode cX0_fraction 47 = .ok (.putfield 48, 3) := dk_181 0 48 (dk_at dksX0_fraction_2 0 rfl rfl)
theorem dX0_fraction_50 : decode cX0_fraction 50 = .ok (.lload_n 1, 1) := dk_31 (dk_at dksX0_fraction_2 3 rfl rfl)
theorem dX0_fraction_51 : decode cX0_fraction 51 = .ok (.invokestatic 95, 3) := dk_184 0 95 (dk_at dksX0_fraction_2 4 rfl rfl)
theorem dX0_fraction_54 : decode cX0_fraction 54 = .ok (.ireturn, 1) := dk_172 (dk_at dksX0_fraction_2 7 rfl rfl)
abbrev cX0_sloth : ByteArray := prog_1_method_89_code
def yX0_sloth : MethodName := ⟨RX0, "sloth", "(I)Z"⟩
def dkwX0_sloth_2 : List UInt8 := [180, 1, 24, 27, 46, 133, 42, 182, 0, 153, 180, 0, 237, 133, 182, 1, 140, 87, 4, 172]
abbrev dktX0_sloth_2 : List UInt8 := dkwX0_sloth_2 ++ []
def dkwX0_sloth_1 : List UInt8 := [16, 6, 167, 0, 4, 3, 181, 0, 76, 42, 180, 0, 76, 158, 0, 5, 3, 172, 42, 42, 182, 0, 153]
abbrev dktX0_sloth_1 : List UInt8 := dkwX0_sloth_1 ++ dktX0_sloth_2
def dkwX0_sloth_0 : List UInt8 := [42, 42, 27, 182, 1, 9, 154, 0, 7, 4, 167, 0, 19, 42, 182, 0, 153, 180, 0, 237, 154, 0, 8]
abbrev dktX0_sloth_0 : List UInt8 := dkwX0_sloth_0 ++ dktX0_sloth_1
theorem dksX0_sloth_0 : cX0_sloth.data.toList.drop 0 = dktX0_sloth_0 := by decide +kernel
theorem dksX0_sloth_1 : cX0_sloth.data.toList.drop 23 = dktX0_sloth_1 := dk_seg dksX0_sloth_0 23 rfl rfl
theorem dksX0_sloth_2 : cX0_sloth.data.toList.drop 46 = dktX0_sloth_2 := dk_seg dksX0_sloth_1 23 rfl rfl
theorem dX0_sloth_0 : decode cX0_sloth 0 = .ok (.aload_n 0, 1) := dk_42 (dk_at dksX0_sloth_0 0 rfl rfl)
theorem dX0_sloth_1 : decode cX0_sloth 1 = .ok (.aload_n 0, 1) := dk_42 (dk_at dksX0_sloth_0 1 rfl rfl)
theorem dX0_sloth_2 : decode cX0_sloth 2 = .ok (.iload_n 1, 1) := dk_27 (dk_at dksX0_sloth_0 2 rfl rfl)
theorem dX0_sloth_3 : decode cX0_sloth 3 = .ok (.invokevirtual 265, 3) := dk_182 1 9 (dk_at dksX0_sloth_0 3 rfl rfl)
theorem dX0_sloth_6 : decode cX0_sloth 6 = .ok (.ifCond .ne 7, 3) := dk_154 0 7 (dk_at dksX0_sloth_0 6 rfl rfl)
theorem dX0_sloth_9 : decode cX0_sloth 9 = .ok (.iconst 1, 1) := dk_4 (dk_at dksX0_sloth_0 9 rfl rfl)
theorem dX0_sloth_10 : decode cX0_sloth 10 = .ok (.goto 19, 3) := dk_167 0 19 (dk_at dksX0_sloth_0 10 rfl rfl)
theorem dX0_sloth_13 : decode cX0_sloth 13 = .ok (.aload_n 0, 1) := dk_42 (dk_at dksX0_sloth_0 13 rfl rfl)
theorem dX0_sloth_14 : decode cX0_sloth 14 = .ok (.invokevirtual 153, 3) := dk_182 0 153 (dk_at dksX0_sloth_0 14 rfl rfl)
theorem dX0_sloth_17 : decode cX0_sloth 17 = .ok (.getfield 237, 3) := dk_180 0 237 (dk_at dksX0_sloth_0 17 rfl rfl)
theorem dX0_sloth_20 : decode cX0_sloth 20 = .ok (.ifCond .ne 8, 3) := dk_154 0 8 (dk_at dksX0_sloth_0 20 rfl rfl)
theorem dX0_sloth_23 : decode cX0_sloth 23 = .ok (.bipush 6, 2) := dk_16 6 (dk_at dksX0_sloth_1 0 rfl rfl)
theorem dX0_sloth_25 : decode cX0_sloth 25 = .ok (.goto 4, 3) := dk_167 0 4 (dk_at dksX0_sloth_1 2 rfl rfl)
theorem dX0_sloth_28 : decode cX0_sloth 28 = .ok (.iconst 0, 1) := dk_3 (dk_at dksX0_sloth_1 5 rfl rfl)
theorem dX0_sloth_29 : decode cX0_sloth 29 = .ok (.putfield 76, 3) := dk_181 0 76 (dk_at dksX0_sloth_1 6 rfl rfl)
theorem dX0_sloth_32 : decode cX0_sloth 32 = .ok (.aload_n 0, 1) := dk_42 (dk_at dksX0_sloth_1 9 rfl rfl)
theorem dX0_sloth_33 : decode cX0_sloth 33 = .ok (.getfield 76, 3) := dk_180 0 76 (dk_at dksX0_sloth_1 10 rfl rfl)
theorem dX0_sloth_36 : decode cX0_sloth 36 = .ok (.ifCond .le 5, 3) := dk_158 0 5 (dk_at dksX0_sloth_1 13 rfl rfl)
theorem dX0_sloth_39 : decode cX0_sloth 39 = .ok (.iconst 0, 1) := dk_3 (dk_at dksX0_sloth_1 16 rfl rfl)
theorem dX0_sloth_40 : decode cX0_sloth 40 = .ok (.ireturn, 1) := dk_172 (dk_at dksX0_sloth_1 17 rfl rfl)
theorem dX0_sloth_41 : decode cX0_sloth 41 = .ok (.aload_n 0, 1) := dk_42 (dk_at dksX0_sloth_1 18 rfl rfl)
theorem dX0_sloth_42 : decode cX0_sloth 42 = .ok (.aload_n 0, 1) := dk_42 (dk_at dksX0_sloth_1 19 rfl rfl)
theorem dX0_sloth_43 : decode cX0_sloth 43 = .ok (.invokevirtual 153, 3) := dk_182 0 153 (dk_at dksX0_sloth_1 20 rfl rfl)
theorem dX0_sloth_46 : decode cX0_sloth 46 = .ok (.getfield 280, 3) := dk_180 1 24 (dk_at dksX0_sloth_2 0 rfl rfl)
theorem dX0_sloth_49 : decode cX0_sloth 49 = .ok (.iload_n 1, 1) := dk_27 (dk_at dksX0_sloth_2 3 rfl rfl)
theorem dX0_sloth_50 : decode cX0_sloth 50 = .ok (.iaload, 1) := dk_46 (dk_at dksX0_sloth_2 4 rfl rfl)
theorem dX0_sloth_51 : decode cX0_sloth 51 = .ok (.i2l, 1) := dk_133 (dk_at dksX0_sloth_2 5 rfl rfl)
theorem dX0_sloth_52 : decode cX0_sloth 52 = .ok (.aload_n 0, 1) := dk_42 (dk_at dksX0_sloth_2 6 rfl rfl)
theorem dX0_sloth_53 : decode cX0_sloth 53 = .ok (.invokevirtual 153, 3) := dk_182 0 153 (dk_at dksX0_sloth_2 7 rfl rfl)
theorem dX0_sloth_56 : decode cX0_sloth 56 = .ok (.getfield 237, 3) := dk_180 0 237 (dk_at dksX0_sloth_2 10 rfl rfl)
theorem dX0_sloth_59 : decode cX0_sloth 59 = .ok (.i2l, 1) := dk_133 (dk_at dksX0_sloth_2 13 rfl rfl)
theorem dX0_sloth_60 : decode cX0_sloth 60 = .ok (.invokevirtual 396, 3) := dk_182 1 140 (dk_at dksX0_sloth_2 14 rfl rfl)
theorem dX0_sloth_63 : decode cX0_sloth 63 = .ok (.pop, 1) := dk_87 (dk_at dksX0_sloth_2 17 rfl rfl)
theorem dX0_sloth_64 : decode cX0_sloth 64 = .ok (.iconst 1, 1) := dk_4 (dk_at dksX0_sloth_2 18 rfl rfl)
theorem dX0_sloth_65 : decode cX0_sloth 65 = .ok (.ireturn, 1) := dk_172 (dk_at dksX0_sloth_2 19 rfl rfl)
abbrev cX0_copyHolds : ByteArray := prog_1_method_90_code
def yX0_copyHolds : MethodName := ⟨RX0, "copyHolds", "(I)I"⟩
def dkwX0_copyHolds_4 : List UInt8 := [167, 255, 225, 42, 182, 0, 153, 180, 0, 164, 172]
abbrev dktX0_copyHolds_4 : List UInt8 := dkwX0_copyHolds_4 ++ []
def dkwX0_copyHolds_3 : List UInt8 := [162, 0, 26, 42, 27, 28, 42, 182, 0, 153, 180, 1, 14, 28, 46, 133, 182, 1, 144, 87, 132, 2, 1]
abbrev dktX0_copyHolds_3 : List UInt8 := dkwX0_copyHolds_3 ++ dktX0_copyHolds_4
def dkwX0_copyHolds_2 : List UInt8 := [182, 0, 101, 167, 0, 10, 77, 42, 44, 182, 0, 134, 172, 3, 61, 28, 42, 182, 0, 153, 180, 0, 164]
abbrev dktX0_copyHolds_2 : List UInt8 := dkwX0_copyHolds_2 ++ dktX0_copyHolds_3
def dkwX0_copyHolds_1 : List UInt8 := [182, 0, 118, 184, 1, 110, 42, 182, 0, 153, 180, 0, 164, 161, 0, 7, 4, 167, 0, 4, 3, 6]
abbrev dktX0_copyHolds_1 : List UInt8 := dkwX0_copyHolds_1 ++ dktX0_copyHolds_2
def dkwX0_copyHolds_0 : List UInt8 := [42, 3, 181, 0, 76, 42, 27, 133, 9, 20, 1, 48, 184, 0, 160, 4, 182, 0, 101, 42, 42, 27]
abbrev dktX0_copyHolds_0 : List UInt8 := dkwX0_copyHolds_0 ++ dktX0_copyHolds_1
theorem dksX0_copyHolds_0 : cX0_copyHolds.data.toList.drop 0 = dktX0_copyHolds_0 := by decide +kernel
theorem dksX0_copyHolds_1 : cX0_copyHolds.data.toList.drop 22 = dktX0_copyHolds_1 := dk_seg dksX0_copyHolds_0 22 rfl rfl
theorem dksX0_copyHolds_2 : cX0_copyHolds.data.toList.drop 44 = dktX0_copyHolds_2 := dk_seg dksX0_copyHolds_1 22 rfl rfl
theorem dksX0_copyHolds_3 : cX0_copyHolds.data.toList.drop 67 = dktX0_copyHolds_3 := dk_seg dksX0_copyHolds_2 23 rfl rfl
theorem dksX0_copyHolds_4 : cX0_copyHolds.data.toList.drop 90 = dktX0_copyHolds_4 := dk_seg dksX0_copyHolds_3 23 rfl rfl
theorem dX0_copyHolds_0 : decode cX0_copyHolds 0 = .ok (.aload_n 0, 1) := dk_42 (dk_at dksX0_copyHolds_0 0 rfl rfl)
theorem dX0_copyHolds_1 : decode cX0_copyHolds 1 = .ok (.iconst 0, 1) := dk_3 (dk_at dksX0_copyHolds_0 1 rfl rfl)
theorem dX0_copyHolds_2 : decode cX0_copyHolds 2 = .ok (.putfield 76, 3) := dk_181 0 76 (dk_at dksX0_copyHolds_0 2 rfl rfl)
theorem dX0_copyHolds_5 : decode cX0_copyHolds 5 = .ok (.aload_n 0, 1) := dk_42 (dk_at dksX0_copyHolds_0 5 rfl rfl)
theorem dX0_copyHolds_6 : decode cX0_copyHolds 6 = .ok (.iload_n 1, 1) := dk_27 (dk_at dksX0_copyHolds_0 6 rfl rfl)
theorem dX0_copyHolds_7 : decode cX0_copyHolds 7 = .ok (.i2l, 1) := dk_133 (dk_at dksX0_copyHolds_0 7 rfl rfl)
theorem dX0_copyHolds_8 : decode cX0_copyHolds 8 = .ok (.lconst 0, 1) := dk_9 (dk_at dksX0_copyHolds_0 8 rfl rfl)
theorem dX0_copyHolds_9 : decode cX0_copyHolds 9 = .ok (.ldc2_w 304, 3) := dk_20 1 48 (dk_at dksX0_copyHolds_0 9 rfl rfl)
theorem dX0_copyHolds_12 : decode cX0_copyHolds 12 = .ok (.invokestatic 160, 3) := dk_184 0 160 (dk_at dksX0_copyHolds_0 12 rfl rfl)
theorem dX0_copyHolds_15 : decode cX0_copyHolds 15 = .ok (.iconst 1, 1) := dk_4 (dk_at dksX0_copyHolds_0 15 rfl rfl)
theorem dX0_copyHolds_16 : decode cX0_copyHolds 16 = .ok (.invokevirtual 101, 3) := dk_182 0 101 (dk_at dksX0_copyHolds_0 16 rfl rfl)
theorem dX0_copyHolds_19 : decode cX0_copyHolds 19 = .ok (.aload_n 0, 1) := dk_42 (dk_at dksX0_copyHolds_0 19 rfl rfl)
theorem dX0_copyHolds_20 : decode cX0_copyHolds 20 = .ok (.aload_n 0, 1) := dk_42 (dk_at dksX0_copyHolds_0 20 rfl rfl)
theorem dX0_copyHolds_21 : decode cX0_copyHolds 21 = .ok (.iload_n 1, 1) := dk_27 (dk_at dksX0_copyHolds_0 21 rfl rfl)
theorem dX0_copyHolds_22 : decode cX0_copyHolds 22 = .ok (.invokevirtual 118, 3) := dk_182 0 118 (dk_at dksX0_copyHolds_1 0 rfl rfl)
theorem dX0_copyHolds_25 : decode cX0_copyHolds 25 = .ok (.invokestatic 366, 3) := dk_184 1 110 (dk_at dksX0_copyHolds_1 3 rfl rfl)
theorem dX0_copyHolds_28 : decode cX0_copyHolds 28 = .ok (.aload_n 0, 1) := dk_42 (dk_at dksX0_copyHolds_1 6 rfl rfl)
theorem dX0_copyHolds_29 : decode cX0_copyHolds 29 = .ok (.invokevirtual 153, 3) := dk_182 0 153 (dk_at dksX0_copyHolds_1 7 rfl rfl)
theorem dX0_copyHolds_32 : decode cX0_copyHolds 32 = .ok (.getfield 164, 3) := dk_180 0 164 (dk_at dksX0_copyHolds_1 10 rfl rfl)
theorem dX0_copyHolds_35 : decode cX0_copyHolds 35 = .ok (.if_icmp .lt 7, 3) := dk_161 0 7 (dk_at dksX0_copyHolds_1 13 rfl rfl)
theorem dX0_copyHolds_38 : decode cX0_copyHolds 38 = .ok (.iconst 1, 1) := dk_4 (dk_at dksX0_copyHolds_1 16 rfl rfl)
theorem dX0_copyHolds_39 : decode cX0_copyHolds 39 = .ok (.goto 4, 3) := dk_167 0 4 (dk_at dksX0_copyHolds_1 17 rfl rfl)
theorem dX0_copyHolds_42 : decode cX0_copyHolds 42 = .ok (.iconst 0, 1) := dk_3 (dk_at dksX0_copyHolds_1 20 rfl rfl)
theorem dX0_copyHolds_43 : decode cX0_copyHolds 43 = .ok (.iconst 3, 1) := dk_6 (dk_at dksX0_copyHolds_1 21 rfl rfl)
theorem dX0_copyHolds_44 : decode cX0_copyHolds 44 = .ok (.invokevirtual 101, 3) := dk_182 0 101 (dk_at dksX0_copyHolds_2 0 rfl rfl)
theorem dX0_copyHolds_47 : decode cX0_copyHolds 47 = .ok (.goto 10, 3) := dk_167 0 10 (dk_at dksX0_copyHolds_2 3 rfl rfl)
theorem dX0_copyHolds_50 : decode cX0_copyHolds 50 = .ok (.astore_n 2, 1) := dk_77 (dk_at dksX0_copyHolds_2 6 rfl rfl)
theorem dX0_copyHolds_51 : decode cX0_copyHolds 51 = .ok (.aload_n 0, 1) := dk_42 (dk_at dksX0_copyHolds_2 7 rfl rfl)
theorem dX0_copyHolds_52 : decode cX0_copyHolds 52 = .ok (.aload_n 2, 1) := dk_44 (dk_at dksX0_copyHolds_2 8 rfl rfl)
theorem dX0_copyHolds_53 : decode cX0_copyHolds 53 = .ok (.invokevirtual 134, 3) := dk_182 0 134 (dk_at dksX0_copyHolds_2 9 rfl rfl)
theorem dX0_copyHolds_56 : decode cX0_copyHolds 56 = .ok (.ireturn, 1) := dk_172 (dk_at dksX0_copyHolds_2 12 rfl rfl)
theorem dX0_copyHolds_57 : decode cX0_copyHolds 57 = .ok (.iconst 0, 1) := dk_3 (dk_at dksX0_copyHolds_2 13 rfl rfl)
theorem dX0_copyHolds_58 : decode cX0_copyHolds 58 = .ok (.istore_n 2, 1) := dk_61 (dk_at dksX0_copyHolds_2 14 rfl rfl)
theorem dX0_copyHolds_59 : decode cX0_copyHolds 59 = .ok (.iload_n 2, 1) := dk_28 (dk_at dksX0_copyHolds_2 15 rfl rfl)
theorem dX0_copyHolds_60 : decode cX0_copyHolds 60 = .ok (.aload_n 0, 1) := dk_42 (dk_at dksX0_copyHolds_2 16 rfl rfl)
theorem dX0_copyHolds_61 : decode cX0_copyHolds 61 = .ok (.invokevirtual 153, 3) := dk_182 0 153 (dk_at dksX0_copyHolds_2 17 rfl rfl)
theorem dX0_copyHolds_64 : decode cX0_copyHolds 64 = .ok (.getfield 164, 3) := dk_180 0 164 (dk_at dksX0_copyHolds_2 20 rfl rfl)
theorem dX0_copyHolds_67 : decode cX0_copyHolds 67 = .ok (.if_icmp .ge 26, 3) := dk_162 0 26 (dk_at dksX0_copyHolds_3 0 rfl rfl)
theorem dX0_copyHolds_70 : decode cX0_copyHolds 70 = .ok (.aload_n 0, 1) := dk_42 (dk_at dksX0_copyHolds_3 3 rfl rfl)
theorem dX0_copyHolds_71 : decode cX0_copyHolds 71 = .ok (.iload_n 1, 1) := dk_27 (dk_at dksX0_copyHolds_3 4 rfl rfl)
theorem dX0_copyHolds_72 : decode cX0_copyHolds 72 = .ok (.iload_n 2, 1) := dk_28 (dk_at dksX0_copyHolds_3 5 rfl rfl)
theorem dX0_copyHolds_73 : decode cX0_copyHolds 73 = .ok (.aload_n 0, 1) := dk_42 (dk_at dksX0_copyHolds_3 6 rfl rfl)
theorem dX0_copyHolds_74 : decode cX0_copyHolds 74 = .ok (.invokevirtual 153, 3) := dk_182 0 153 (dk_at dksX0_copyHolds_3 7 rfl rfl)
theorem dX0_copyHolds_77 : decode cX0_copyHolds 77 = .ok (.getfield 270, 3) := dk_180 1 14 (dk_at dksX0_copyHolds_3 10 rfl rfl)
theorem dX0_copyHolds_80 : decode cX0_copyHolds 80 = .ok (.iload_n 2, 1) := dk_28 (dk_at dksX0_copyHolds_3 13 rfl rfl)
theorem dX0_copyHolds_81 : decode cX0_copyHolds 81 = .ok (.iaload, 1) := dk_46 (dk_at dksX0_copyHolds_3 14 rfl rfl)
theorem dX0_copyHolds_82 : decode cX0_copyHolds 82 = .ok (.i2l, 1) := dk_133 (dk_at dksX0_copyHolds_3 15 rfl rfl)
theorem dX0_copyHolds_83 : decode cX0_copyHolds 83 = .ok (.invokevirtual 400, 3) := dk_182 1 144 (dk_at dksX0_copyHolds_3 16 rfl rfl)
theorem dX0_copyHolds_86 : decode cX0_copyHolds 86 = .ok (.pop, 1) := dk_87 (dk_at dksX0_copyHolds_3 19 rfl rfl)
theorem dX0_copyHolds_87 : decode cX0_copyHolds 87 = .ok (.iinc 2 1, 3) := dk_132 2 1 (dk_at dksX0_copyHolds_3 20 rfl rfl)
theorem dX0_copyHolds_90 : decode cX0_copyHolds 90 = .ok (.goto (-31), 3) := dk_167 255 225 (dk_at dksX0_copyHolds_4 0 rfl rfl)
theorem dX0_copyHolds_93 : decode cX0_copyHolds 93 = .ok (.aload_n 0, 1) := dk_42 (dk_at dksX0_copyHolds_4 3 rfl rfl)
theorem dX0_copyHolds_94 : decode cX0_copyHolds 94 = .ok (.invokevirtual 153, 3) := dk_182 0 153 (dk_at dksX0_copyHolds_4 4 rfl rfl)
theorem dX0_copyHolds_97 : decode cX0_copyHolds 97 = .ok (.getfield 164, 3) := dk_180 0 164 (dk_at dksX0_copyHolds_4 7 rfl rfl)
theorem dX0_copyHolds_100 : decode cX0_copyHolds 100 = .ok (.ireturn, 1) := dk_172 (dk_at dksX0_copyHolds_4 10 rfl rfl)
abbrev cX0_live : ByteArray := prog_1_method_91_code
def yX0_live : MethodName := ⟨RX0, "live", "(I)I"⟩
def dkwX0_live_5 : List UInt8 := [153, 0, 7, 4, 167, 0, 4, 3, 79, 42, 4, 181, 1, 170, 44, 180, 1, 173, 172]
abbrev dktX0_live_5 : List UInt8 := dkwX0_live_5 ++ []
def dkwX0_live_4 : List UInt8 := [44, 180, 1, 162, 79, 42, 180, 0, 73, 6, 44, 180, 1, 164, 79, 42, 180, 0, 73, 7, 44, 180, 1, 166]
abbrev dktX0_live_4 : List UInt8 := dkwX0_live_4 ++ dktX0_live_5
def dkwX0_live_3 : List UInt8 := [180, 0, 73, 3, 44, 180, 1, 158, 79, 42, 180, 0, 73, 4, 44, 180, 1, 161, 79, 42, 180, 0, 73, 5]
abbrev dktX0_live_3 : List UInt8 := dkwX0_live_3 ++ dktX0_live_4
def dkwX0_live_2 : List UInt8 := [89, 42, 182, 0, 153, 27, 183, 1, 152, 77, 42, 180, 0, 55, 180, 0, 208, 44, 182, 1, 155, 42]
abbrev dktX0_live_2 : List UInt8 := dkwX0_live_2 ++ dktX0_live_3
def dkwX0_live_1 : List UInt8 := [199, 0, 8, 16, 6, 167, 0, 4, 3, 181, 0, 76, 42, 180, 0, 76, 158, 0, 5, 2, 172, 187, 1, 150]
abbrev dktX0_live_1 : List UInt8 := dkwX0_live_1 ++ dktX0_live_2
def dkwX0_live_0 : List UInt8 := [42, 27, 133, 9, 20, 1, 148, 184, 0, 160, 154, 0, 7, 4, 167, 0, 19, 42, 180, 0, 55, 180, 0, 208]
abbrev dktX0_live_0 : List UInt8 := dkwX0_live_0 ++ dktX0_live_1
theorem dksX0_live_0 : cX0_live.data.toList.drop 0 = dktX0_live_0 := by decide +kernel
theorem dksX0_live_1 : cX0_live.data.toList.drop 24 = dktX0_live_1 := dk_seg dksX0_live_0 24 rfl rfl
theorem dksX0_live_2 : cX0_live.data.toList.drop 48 = dktX0_live_2 := dk_seg dksX0_live_1 24 rfl rfl
theorem dksX0_live_3 : cX0_live.data.toList.drop 70 = dktX0_live_3 := dk_seg dksX0_live_2 22 rfl rfl
theorem dksX0_live_4 : cX0_live.data.toList.drop 94 = dktX0_live_4 := dk_seg dksX0_live_3 24 rfl rfl
theorem dksX0_live_5 : cX0_live.data.toList.drop 118 = dktX0_live_5 := dk_seg dksX0_live_4 24 rfl rfl
theorem dX0_live_0 : decode cX0_live 0 = .ok (.aload_n 0, 1) := dk_42 (dk_at dksX0_live_0 0 rfl rfl)
theorem dX0_live_1 : decode cX0_live 1 = .ok (.iload_n 1, 1) := dk_27 (dk_at dksX0_live_0 1 rfl rfl)
theorem dX0_live_2 : decode cX0_live 2 = .ok (.i2l, 1) := dk_133 (dk_at dksX0_live_0 2 rfl rfl)
theorem dX0_live_3 : decode cX0_live 3 = .ok (.lconst 0, 1) := dk_9 (dk_at dksX0_live_0 3 rfl rfl)
theorem dX0_live_4 : decode cX0_live 4 = .ok (.ldc2_w 404, 3) := dk_20 1 148 (dk_at dksX0_live_0 4 rfl rfl)
theorem dX0_live_7 : decode cX0_live 7 = .ok (.invokestatic 160, 3) := dk_184 0 160 (dk_at dksX0_live_0 7 rfl rfl)
theorem dX0_live_10 : decode cX0_live 10 = .ok (.ifCond .ne 7, 3) := dk_154 0 7 (dk_at dksX0_live_0 10 rfl rfl)
theorem dX0_live_13 : decode cX0_live 13 = .ok (.iconst 1, 1) := dk_4 (dk_at dksX0_live_0 13 rfl rfl)
theorem dX0_live_14 : decode cX0_live 14 = .ok (.goto 19, 3) := dk_167 0 19 (dk_at dksX0_live_0 14 rfl rfl)
theorem dX0_live_17 : decode cX0_live 17 = .ok (.aload_n 0, 1) := dk_42 (dk_at dksX0_live_0 17 rfl rfl)
theorem dX0_live_18 : decode cX0_live 18 = .ok (.getfield 55, 3) := dk_180 0 55 (dk_at dksX0_live_0 18 rfl rfl)
theorem dX0_live_21 : decode cX0_live 21 = .ok (.getfield 208, 3) := dk_180 0 208 (dk_at dksX0_live_0 21 rfl rfl)
theorem dX0_live_24 : decode cX0_live 24 = .ok (.ifnonnull 8, 3) := dk_199 0 8 (dk_at dksX0_live_1 0 rfl rfl)
theorem dX0_live_27 : decode cX0_live 27 = .ok (.bipush 6, 2) := dk_16 6 (dk_at dksX0_live_1 3 rfl rfl)
theorem dX0_live_29 : decode cX0_live 29 = .ok (.goto 4, 3) := dk_167 0 4 (dk_at dksX0_live_1 5 rfl rfl)
theorem dX0_live_32 : decode cX0_live 32 = .ok (.iconst 0, 1) := dk_3 (dk_at dksX0_live_1 8 rfl rfl)
theorem dX0_live_33 : decode cX0_live 33 = .ok (.putfield 76, 3) := dk_181 0 76 (dk_at dksX0_live_1 9 rfl rfl)
theorem dX0_live_36 : decode cX0_live 36 = .ok (.aload_n 0, 1) := dk_42 (dk_at dksX0_live_1 12 rfl rfl)
theorem dX0_live_37 : decode cX0_live 37 = .ok (.getfield 76, 3) := dk_180 0 76 (dk_at dksX0_live_1 13 rfl rfl)
theorem dX0_live_40 : decode cX0_live 40 = .ok (.ifCond .le 5, 3) := dk_158 0 5 (dk_at dksX0_live_1 16 rfl rfl)
theorem dX0_live_43 : decode cX0_live 43 = .ok (.iconst (-1), 1) := dk_2 (dk_at dksX0_live_1 19 rfl rfl)
theorem dX0_live_44 : decode cX0_live 44 = .ok (.ireturn, 1) := dk_172 (dk_at dksX0_live_1 20 rfl rfl)
theorem dX0_live_45 : decode cX0_live 45 = .ok (.new 406, 3) := dk_187 1 150 (dk_at dksX0_live_1 21 rfl rfl)
theorem dX0_live_48 : decode cX0_live 48 = .ok (.dup, 1) := dk_89 (dk_at dksX0_live_2 0 rfl rfl)
theorem dX0_live_49 : decode cX0_live 49 = .ok (.aload_n 0, 1) := dk_42 (dk_at dksX0_live_2 1 rfl rfl)
theorem dX0_live_50 : decode cX0_live 50 = .ok (.invokevirtual 153, 3) := dk_182 0 153 (dk_at dksX0_live_2 2 rfl rfl)
theorem dX0_live_53 : decode cX0_live 53 = .ok (.iload_n 1, 1) := dk_27 (dk_at dksX0_live_2 5 rfl rfl)
theorem dX0_live_54 : decode cX0_live 54 = .ok (.invokespecial 408, 3) := dk_183 1 152 (dk_at dksX0_live_2 6 rfl rfl)
theorem dX0_live_57 : decode cX0_live 57 = .ok (.astore_n 2, 1) := dk_77 (dk_at dksX0_live_2 9 rfl rfl)
theorem dX0_live_58 : decode cX0_live 58 = .ok (.aload_n 0, 1) := dk_42 (dk_at dksX0_live_2 10 rfl rfl)
theorem dX0_live_59 : decode cX0_live 59 = .ok (.getfield 55, 3) := dk_180 0 55 (dk_at dksX0_live_2 11 rfl rfl)
theorem dX0_live_62 : decode cX0_live 62 = .ok (.getfield 208, 3) := dk_180 0 208 (dk_at dksX0_live_2 14 rfl rfl)
theorem dX0_live_65 : decode cX0_live 65 = .ok (.aload_n 2, 1) := dk_44 (dk_at dksX0_live_2 17 rfl rfl)
theorem dX0_live_66 : decode cX0_live 66 = .ok (.invokevirtual 411, 3) := dk_182 1 155 (dk_at dksX0_live_2 18 rfl rfl)
theorem dX0_live_69 : decode cX0_live 69 = .ok (.aload_n 0, 1) := dk_42 (dk_at dksX0_live_2 21 rfl rfl)
theorem dX0_live_70 : decode cX0_live 70 = .ok (.getfield 73, 3) := dk_180 0 73 (dk_at dksX0_live_3 0 rfl rfl)
theorem dX0_live_73 : decode cX0_live 73 = .ok (.iconst 0, 1) := dk_3 (dk_at dksX0_live_3 3 rfl rfl)
theorem dX0_live_74 : decode cX0_live 74 = .ok (.aload_n 2, 1) := dk_44 (dk_at dksX0_live_3 4 rfl rfl)
theorem dX0_live_75 : decode cX0_live 75 = .ok (.getfield 414, 3) := dk_180 1 158 (dk_at dksX0_live_3 5 rfl rfl)
theorem dX0_live_78 : decode cX0_live 78 = .ok (.iastore, 1) := dk_79 (dk_at dksX0_live_3 8 rfl rfl)
theorem dX0_live_79 : decode cX0_live 79 = .ok (.aload_n 0, 1) := dk_42 (dk_at dksX0_live_3 9 rfl rfl)
theorem dX0_live_80 : decode cX0_live 80 = .ok (.getfield 73, 3) := dk_180 0 73 (dk_at dksX0_live_3 10 rfl rfl)
theorem dX0_live_83 : decode cX0_live 83 = .ok (.iconst 1, 1) := dk_4 (dk_at dksX0_live_3 13 rfl rfl)
theorem dX0_live_84 : decode cX0_live 84 = .ok (.aload_n 2, 1) := dk_44 (dk_at dksX0_live_3 14 rfl rfl)
theorem dX0_live_85 : decode cX0_live 85 = .ok (.getfield 417, 3) := dk_180 1 161 (dk_at dksX0_live_3 15 rfl rfl)
theorem dX0_live_88 : decode cX0_live 88 = .ok (.iastore, 1) := dk_79 (dk_at dksX0_live_3 18 rfl rfl)
theorem dX0_live_89 : decode cX0_live 89 = .ok (.aload_n 0, 1) := dk_42 (dk_at dksX0_live_3 19 rfl rfl)
theorem dX0_live_90 : decode cX0_live 90 = .ok (.getfield 73, 3) := dk_180 0 73 (dk_at dksX0_live_3 20 rfl rfl)
theorem dX0_live_93 : decode cX0_live 93 = .ok (.iconst 2, 1) := dk_5 (dk_at dksX0_live_3 23 rfl rfl)
theorem dX0_live_94 : decode cX0_live 94 = .ok (.aload_n 2, 1) := dk_44 (dk_at dksX0_live_4 0 rfl rfl)
theorem dX0_live_95 : decode cX0_live 95 = .ok (.getfield 418, 3) := dk_180 1 162 (dk_at dksX0_live_4 1 rfl rfl)
theorem dX0_live_98 : decode cX0_live 98 = .ok (.iastore, 1) := dk_79 (dk_at dksX0_live_4 4 rfl rfl)
theorem dX0_live_99 : decode cX0_live 99 = .ok (.aload_n 0, 1) := dk_42 (dk_at dksX0_live_4 5 rfl rfl)
theorem dX0_live_100 : decode cX0_live 100 = .ok (.getfield 73, 3) := dk_180 0 73 (dk_at dksX0_live_4 6 rfl rfl)
theorem dX0_live_103 : decode cX0_live 103 = .ok (.iconst 3, 1) := dk_6 (dk_at dksX0_live_4 9 rfl rfl)
theorem dX0_live_104 : decode cX0_live 104 = .ok (.aload_n 2, 1) := dk_44 (dk_at dksX0_live_4 10 rfl rfl)
theorem dX0_live_105 : decode cX0_live 105 = .ok (.getfield 420, 3) := dk_180 1 164 (dk_at dksX0_live_4 11 rfl rfl)
theorem dX0_live_108 : decode cX0_live 108 = .ok (.iastore, 1) := dk_79 (dk_at dksX0_live_4 14 rfl rfl)
theorem dX0_live_109 : decode cX0_live 109 = .ok (.aload_n 0, 1) := dk_42 (dk_at dksX0_live_4 15 rfl rfl)
theorem dX0_live_110 : decode cX0_live 110 = .ok (.getfield 73, 3) := dk_180 0 73 (dk_at dksX0_live_4 16 rfl rfl)
theorem dX0_live_113 : decode cX0_live 113 = .ok (.iconst 4, 1) := dk_7 (dk_at dksX0_live_4 19 rfl rfl)
theorem dX0_live_114 : decode cX0_live 114 = .ok (.aload_n 2, 1) := dk_44 (dk_at dksX0_live_4 20 rfl rfl)
theorem dX0_live_115 : decode cX0_live 115 = .ok (.getfield 422, 3) := dk_180 1 166 (dk_at dksX0_live_4 21 rfl rfl)
theorem dX0_live_118 : decode cX0_live 118 = .ok (.ifCond .eq 7, 3) := dk_153 0 7 (dk_at dksX0_live_5 0 rfl rfl)
theorem dX0_live_121 : decode cX0_live 121 = .ok (.iconst 1, 1) := dk_4 (dk_at dksX0_live_5 3 rfl rfl)
theorem dX0_live_122 : decode cX0_live 122 = .ok (.goto 4, 3) := dk_167 0 4 (dk_at dksX0_live_5 4 rfl rfl)
theorem dX0_live_125 : decode cX0_live 125 = .ok (.iconst 0, 1) := dk_3 (dk_at dksX0_live_5 7 rfl rfl)
theorem dX0_live_126 : decode cX0_live 126 = .ok (.iastore, 1) := dk_79 (dk_at dksX0_live_5 8 rfl rfl)
theorem dX0_live_127 : decode cX0_live 127 = .ok (.aload_n 0, 1) := dk_42 (dk_at dksX0_live_5 9 rfl rfl)
theorem dX0_live_128 : decode cX0_live 128 = .ok (.iconst 1, 1) := dk_4 (dk_at dksX0_live_5 10 rfl rfl)
theorem dX0_live_129 : decode cX0_live 129 = .ok (.putfield 426, 3) := dk_181 1 170 (dk_at dksX0_live_5 11 rfl rfl)
theorem dX0_live_132 : decode cX0_live 132 = .ok (.aload_n 2, 1) := dk_44 (dk_at dksX0_live_5 14 rfl rfl)
theorem dX0_live_133 : decode cX0_live 133 = .ok (.getfield 429, 3) := dk_180 1 173 (dk_at dksX0_live_5 15 rfl rfl)
theorem dX0_live_136 : decode cX0_live 136 = .ok (.ireturn, 1) := dk_172 (dk_at dksX0_live_5 18 rfl rfl)
abbrev cX0_lived : ByteArray := prog_1_method_92_code
def yX0_lived : MethodName := ⟨RX0, "lived", "(I)I"⟩
def dkwX0_lived_2 : List UInt8 := [27, 46, 172]
abbrev dktX0_lived_2 : List UInt8 := dkwX0_lived_2 ++ []
def dkwX0_lived_1 : List UInt8 := [3, 167, 0, 5, 16, 6, 181, 0, 76, 42, 180, 0, 76, 158, 0, 7, 2, 167, 0, 9, 42, 180, 0, 73]
abbrev dktX0_lived_1 : List UInt8 := dkwX0_lived_1 ++ dktX0_lived_2
def dkwX0_lived_0 : List UInt8 := [42, 27, 133, 9, 20, 1, 176, 184, 0, 160, 154, 0, 7, 4, 167, 0, 16, 42, 180, 1, 170, 153, 0, 7]
abbrev dktX0_lived_0 : List UInt8 := dkwX0_lived_0 ++ dktX0_lived_1
theorem dksX0_lived_0 : cX0_lived.data.toList.drop 0 = dktX0_lived_0 := by decide +kernel
theorem dksX0_lived_1 : cX0_lived.data.toList.drop 24 = dktX0_lived_1 := dk_seg dksX0_lived_0 24 rfl rfl
theorem dksX0_lived_2 : cX0_lived.data.toList.drop 48 = dktX0_lived_2 := dk_seg dksX0_lived_1 24 rfl rfl
theorem dX0_lived_0 : decode cX0_lived 0 = .ok (.aload_n 0, 1) := dk_42 (dk_at dksX0_lived_0 0 rfl rfl)
theorem dX0_lived_1 : decode cX0_lived 1 = .ok (.iload_n 1, 1) := dk_27 (dk_at dksX0_lived_0 1 rfl rfl)
theorem dX0_lived_2 : decode cX0_lived 2 = .ok (.i2l, 1) := dk_133 (dk_at dksX0_lived_0 2 rfl rfl)
theorem dX0_lived_3 : decode cX0_lived 3 = .ok (.lconst 0, 1) := dk_9 (dk_at dksX0_lived_0 3 rfl rfl)
theorem dX0_lived_4 : decode cX0_lived 4 = .ok (.ldc2_w 432, 3) := dk_20 1 176 (dk_at dksX0_lived_0 4 rfl rfl)
theorem dX0_lived_7 : decode cX0_lived 7 = .ok (.invokestatic 160, 3) := dk_184 0 160 (dk_at dksX0_lived_0 7 rfl rfl)
theorem dX0_lived_10 : decode cX0_lived 10 = .ok (.ifCond .ne 7, 3) := dk_154 0 7 (dk_at dksX0_lived_0 10 rfl rfl)
theorem dX0_lived_13 : decode cX0_lived 13 = .ok (.iconst 1, 1) := dk_4 (dk_at dksX0_lived_0 13 rfl rfl)
theorem dX0_lived_14 : decode cX0_lived 14 = .ok (.goto 16, 3) := dk_167 0 16 (dk_at dksX0_lived_0 14 rfl rfl)
theorem dX0_lived_17 : decode cX0_lived 17 = .ok (.aload_n 0, 1) := dk_42 (dk_at dksX0_lived_0 17 rfl rfl)
theorem dX0_lived_18 : decode cX0_lived 18 = .ok (.getfield 426, 3) := dk_180 1 170 (dk_at dksX0_lived_0 18 rfl rfl)
theorem dX0_lived_21 : decode cX0_lived 21 = .ok (.ifCond .eq 7, 3) := dk_153 0 7 (dk_at dksX0_lived_0 21 rfl rfl)
theorem dX0_lived_24 : decode cX0_lived 24 = .ok (.iconst 0, 1) := dk_3 (dk_at dksX0_lived_1 0 rfl rfl)
theorem dX0_lived_25 : decode cX0_lived 25 = .ok (.goto 5, 3) := dk_167 0 5 (dk_at dksX0_lived_1 1 rfl rfl)
theorem dX0_lived_28 : decode cX0_lived 28 = .ok (.bipush 6, 2) := dk_16 6 (dk_at dksX0_lived_1 4 rfl rfl)
theorem dX0_lived_30 : decode cX0_lived 30 = .ok (.putfield 76, 3) := dk_181 0 76 (dk_at dksX0_lived_1 6 rfl rfl)
theorem dX0_lived_33 : decode cX0_lived 33 = .ok (.aload_n 0, 1) := dk_42 (dk_at dksX0_lived_1 9 rfl rfl)
theorem dX0_lived_34 : decode cX0_lived 34 = .ok (.getfield 76, 3) := dk_180 0 76 (dk_at dksX0_lived_1 10 rfl rfl)
theorem dX0_lived_37 : decode cX0_lived 37 = .ok (.ifCond .le 7, 3) := dk_158 0 7 (dk_at dksX0_lived_1 13 rfl rfl)
theorem dX0_lived_40 : decode cX0_lived 40 = .ok (.iconst (-1), 1) := dk_2 (dk_at dksX0_lived_1 16 rfl rfl)
theorem dX0_lived_41 : decode cX0_lived 41 = .ok (.goto 9, 3) := dk_167 0 9 (dk_at dksX0_lived_1 17 rfl rfl)
theorem dX0_lived_44 : decode cX0_lived 44 = .ok (.aload_n 0, 1) := dk_42 (dk_at dksX0_lived_1 20 rfl rfl)
theorem dX0_lived_45 : decode cX0_lived 45 = .ok (.getfield 73, 3) := dk_180 0 73 (dk_at dksX0_lived_1 21 rfl rfl)
theorem dX0_lived_48 : decode cX0_lived 48 = .ok (.iload_n 1, 1) := dk_27 (dk_at dksX0_lived_2 0 rfl rfl)
theorem dX0_lived_49 : decode cX0_lived 49 = .ok (.iaload, 1) := dk_46 (dk_at dksX0_lived_2 1 rfl rfl)
theorem dX0_lived_50 : decode cX0_lived 50 = .ok (.ireturn, 1) := dk_172 (dk_at dksX0_lived_2 2 rfl rfl)
abbrev cX0_mean : ByteArray := prog_1_method_93_code
def yX0_mean : MethodName := ⟨RX0, "mean", "(II)Z"⟩
def dkwX0_mean_5 : List UInt8 := [184, 1, 33, 133, 97, 66, 132, 5, 1, 167, 255, 197, 42, 33, 28, 133, 182, 1, 140, 87, 4, 172]
abbrev dktX0_mean_5 : List UInt8 := dkwX0_mean_5 ++ []
def dkwX0_mean_4 : List UInt8 := [89, 42, 180, 0, 66, 27, 21, 5, 96, 183, 1, 152, 182, 1, 155, 33, 42, 180, 0, 66, 182, 1, 105]
abbrev dktX0_mean_4 : List UInt8 := dkwX0_mean_4 ++ dktX0_mean_5
def dkwX0_mean_3 : List UInt8 := [162, 0, 59, 42, 180, 0, 66, 42, 182, 0, 153, 182, 0, 205, 42, 180, 0, 55, 180, 0, 208, 187, 1, 150]
abbrev dktX0_mean_3 : List UInt8 := dkwX0_mean_3 ++ dktX0_mean_4
def dkwX0_mean_2 : List UInt8 := [167, 0, 4, 3, 181, 0, 76, 42, 180, 0, 76, 158, 0, 5, 3, 172, 9, 66, 3, 54, 5, 21, 5, 28]
abbrev dktX0_mean_2 : List UInt8 := dkwX0_mean_2 ++ dktX0_mean_3
def dkwX0_mean_1 : List UInt8 := [184, 0, 160, 154, 0, 7, 4, 167, 0, 19, 42, 180, 0, 55, 180, 0, 208, 199, 0, 8, 16, 6]
abbrev dktX0_mean_1 : List UInt8 := dkwX0_mean_1 ++ dktX0_mean_2
def dkwX0_mean_0 : List UInt8 := [42, 28, 133, 10, 20, 1, 108, 184, 0, 160, 153, 0, 20, 27, 133, 9, 17, 39, 15, 28, 100, 4, 96, 133]
abbrev dktX0_mean_0 : List UInt8 := dkwX0_mean_0 ++ dktX0_mean_1
theorem dksX0_mean_0 : cX0_mean.data.toList.drop 0 = dktX0_mean_0 := by decide +kernel
theorem dksX0_mean_1 : cX0_mean.data.toList.drop 24 = dktX0_mean_1 := dk_seg dksX0_mean_0 24 rfl rfl
theorem dksX0_mean_2 : cX0_mean.data.toList.drop 46 = dktX0_mean_2 := dk_seg dksX0_mean_1 22 rfl rfl
theorem dksX0_mean_3 : cX0_mean.data.toList.drop 70 = dktX0_mean_3 := dk_seg dksX0_mean_2 24 rfl rfl
theorem dksX0_mean_4 : cX0_mean.data.toList.drop 94 = dktX0_mean_4 := dk_seg dksX0_mean_3 24 rfl rfl
theorem dksX0_mean_5 : cX0_mean.data.toList.drop 117 = dktX0_mean_5 := dk_seg dksX0_mean_4 23 rfl rfl
theorem dX0_mean_0 : decode cX0_mean 0 = .ok (.aload_n 0, 1) := dk_42 (dk_at dksX0_mean_0 0 rfl rfl)
theorem dX0_mean_1 : decode cX0_mean 1 = .ok (.iload_n 2, 1) := dk_28 (dk_at dksX0_mean_0 1 rfl rfl)
theorem dX0_mean_2 : decode cX0_mean 2 = .ok (.i2l, 1) := dk_133 (dk_at dksX0_mean_0 2 rfl rfl)
theorem dX0_mean_3 : decode cX0_mean 3 = .ok (.lconst 1, 1) := dk_10 (dk_at dksX0_mean_0 3 rfl rfl)
theorem dX0_mean_4 : decode cX0_mean 4 = .ok (.ldc2_w 364, 3) := dk_20 1 108 (dk_at dksX0_mean_0 4 rfl rfl)
theorem dX0_mean_7 : decode cX0_mean 7 = .ok (.invokestatic 160, 3) := dk_184 0 160 (dk_at dksX0_mean_0 7 rfl rfl)
theorem dX0_mean_10 : decode cX0_mean 10 = .ok (.ifCond .eq 20, 3) := dk_153 0 20 (dk_at dksX0_mean_0 10 rfl rfl)
theorem dX0_mean_13 : decode cX0_mean 13 = .ok (.iload_n 1, 1) := dk_27 (dk_at dksX0_mean_0 13 rfl rfl)
theorem dX0_mean_14 : decode cX0_mean 14 = .ok (.i2l, 1) := dk_133 (dk_at dksX0_mean_0 14 rfl rfl)
theorem dX0_mean_15 : decode cX0_mean 15 = .ok (.lconst 0, 1) := dk_9 (dk_at dksX0_mean_0 15 rfl rfl)
theorem dX0_mean_16 : decode cX0_mean 16 = .ok (.sipush 9999, 3) := dk_17 39 15 (dk_at dksX0_mean_0 16 rfl rfl)
theorem dX0_mean_19 : decode cX0_mean 19 = .ok (.iload_n 2, 1) := dk_28 (dk_at dksX0_mean_0 19 rfl rfl)
theorem dX0_mean_20 : decode cX0_mean 20 = .ok (.isub, 1) := dk_100 (dk_at dksX0_mean_0 20 rfl rfl)
theorem dX0_mean_21 : decode cX0_mean 21 = .ok (.iconst 1, 1) := dk_4 (dk_at dksX0_mean_0 21 rfl rfl)
theorem dX0_mean_22 : decode cX0_mean 22 = .ok (.iadd, 1) := dk_96 (dk_at dksX0_mean_0 22 rfl rfl)
theorem dX0_mean_23 : decode cX0_mean 23 = .ok (.i2l, 1) := dk_133 (dk_at dksX0_mean_0 23 rfl rfl)
theorem dX0_mean_24 : decode cX0_mean 24 = .ok (.invokestatic 160, 3) := dk_184 0 160 (dk_at dksX0_mean_1 0 rfl rfl)
theorem dX0_mean_27 : decode cX0_mean 27 = .ok (.ifCond .ne 7, 3) := dk_154 0 7 (dk_at dksX0_mean_1 3 rfl rfl)
theorem dX0_mean_30 : decode cX0_mean 30 = .ok (.iconst 1, 1) := dk_4 (dk_at dksX0_mean_1 6 rfl rfl)
theorem dX0_mean_31 : decode cX0_mean 31 = .ok (.goto 19, 3) := dk_167 0 19 (dk_at dksX0_mean_1 7 rfl rfl)
theorem dX0_mean_34 : decode cX0_mean 34 = .ok (.aload_n 0, 1) := dk_42 (dk_at dksX0_mean_1 10 rfl rfl)
theorem dX0_mean_35 : decode cX0_mean 35 = .ok (.getfield 55, 3) := dk_180 0 55 (dk_at dksX0_mean_1 11 rfl rfl)
theorem dX0_mean_38 : decode cX0_mean 38 = .ok (.getfield 208, 3) := dk_180 0 208 (dk_at dksX0_mean_1 14 rfl rfl)
theorem dX0_mean_41 : decode cX0_mean 41 = .ok (.ifnonnull 8, 3) := dk_199 0 8 (dk_at dksX0_mean_1 17 rfl rfl)
theorem dX0_mean_44 : decode cX0_mean 44 = .ok (.bipush 6, 2) := dk_16 6 (dk_at dksX0_mean_1 20 rfl rfl)
theorem dX0_mean_46 : decode cX0_mean 46 = .ok (.goto 4, 3) := dk_167 0 4 (dk_at dksX0_mean_2 0 rfl rfl)
theorem dX0_mean_49 : decode cX0_mean 49 = .ok (.iconst 0, 1) := dk_3 (dk_at dksX0_mean_2 3 rfl rfl)
theorem dX0_mean_50 : decode cX0_mean 50 = .ok (.putfield 76, 3) := dk_181 0 76 (dk_at dksX0_mean_2 4 rfl rfl)
theorem dX0_mean_53 : decode cX0_mean 53 = .ok (.aload_n 0, 1) := dk_42 (dk_at dksX0_mean_2 7 rfl rfl)
theorem dX0_mean_54 : decode cX0_mean 54 = .ok (.getfield 76, 3) := dk_180 0 76 (dk_at dksX0_mean_2 8 rfl rfl)
theorem dX0_mean_57 : decode cX0_mean 57 = .ok (.ifCond .le 5, 3) := dk_158 0 5 (dk_at dksX0_mean_2 11 rfl rfl)
theorem dX0_mean_60 : decode cX0_mean 60 = .ok (.iconst 0, 1) := dk_3 (dk_at dksX0_mean_2 14 rfl rfl)
theorem dX0_mean_61 : decode cX0_mean 61 = .ok (.ireturn, 1) := dk_172 (dk_at dksX0_mean_2 15 rfl rfl)
theorem dX0_mean_62 : decode cX0_mean 62 = .ok (.lconst 0, 1) := dk_9 (dk_at dksX0_mean_2 16 rfl rfl)
theorem dX0_mean_63 : decode cX0_mean 63 = .ok (.lstore_n 3, 1) := dk_66 (dk_at dksX0_mean_2 17 rfl rfl)
theorem dX0_mean_64 : decode cX0_mean 64 = .ok (.iconst 0, 1) := dk_3 (dk_at dksX0_mean_2 18 rfl rfl)
theorem dX0_mean_65 : decode cX0_mean 65 = .ok (.istore 5, 2) := dk_54 5 (dk_at dksX0_mean_2 19 rfl rfl)
theorem dX0_mean_67 : decode cX0_mean 67 = .ok (.iload 5, 2) := dk_21 5 (dk_at dksX0_mean_2 21 rfl rfl)
theorem dX0_mean_69 : decode cX0_mean 69 = .ok (.iload_n 2, 1) := dk_28 (dk_at dksX0_mean_2 23 rfl rfl)
theorem dX0_mean_70 : decode cX0_mean 70 = .ok (.if_icmp .ge 59, 3) := dk_162 0 59 (dk_at dksX0_mean_3 0 rfl rfl)
theorem dX0_mean_73 : decode cX0_mean 73 = .ok (.aload_n 0, 1) := dk_42 (dk_at dksX0_mean_3 3 rfl rfl)
theorem dX0_mean_74 : decode cX0_mean 74 = .ok (.getfield 66, 3) := dk_180 0 66 (dk_at dksX0_mean_3 4 rfl rfl)
theorem dX0_mean_77 : decode cX0_mean 77 = .ok (.aload_n 0, 1) := dk_42 (dk_at dksX0_mean_3 7 rfl rfl)
theorem dX0_mean_78 : decode cX0_mean 78 = .ok (.invokevirtual 153, 3) := dk_182 0 153 (dk_at dksX0_mean_3 8 rfl rfl)
theorem dX0_mean_81 : decode cX0_mean 81 = .ok (.invokevirtual 205, 3) := dk_182 0 205 (dk_at dksX0_mean_3 11 rfl rfl)
theorem dX0_mean_84 : decode cX0_mean 84 = .ok (.aload_n 0, 1) := dk_42 (dk_at dksX0_mean_3 14 rfl rfl)
theorem dX0_mean_85 : decode cX0_mean 85 = .ok (.getfield 55, 3) := dk_180 0 55 (dk_at dksX0_mean_3 15 rfl rfl)
theorem dX0_mean_88 : decode cX0_mean 88 = .ok (.getfield 208, 3) := dk_180 0 208 (dk_at dksX0_mean_3 18 rfl rfl)
theorem dX0_mean_91 : decode cX0_mean 91 = .ok (.new 406, 3) := dk_187 1 150 (dk_at dksX0_mean_3 21 rfl rfl)
theorem dX0_mean_94 : decode cX0_mean 94 = .ok (.dup, 1) := dk_89 (dk_at dksX0_mean_4 0 rfl rfl)
theorem dX0_mean_95 : decode cX0_mean 95 = .ok (.aload_n 0, 1) := dk_42 (dk_at dksX0_mean_4 1 rfl rfl)
theorem dX0_mean_96 : decode cX0_mean 96 = .ok (.getfield 66, 3) := dk_180 0 66 (dk_at dksX0_mean_4 2 rfl rfl)
theorem dX0_mean_99 : decode cX0_mean 99 = .ok (.iload_n 1, 1) := dk_27 (dk_at dksX0_mean_4 5 rfl rfl)
theorem dX0_mean_100 : decode cX0_mean 100 = .ok (.iload 5, 2) := dk_21 5 (dk_at dksX0_mean_4 6 rfl rfl)
theorem dX0_mean_102 : decode cX0_mean 102 = .ok (.iadd, 1) := dk_96 (dk_at dksX0_mean_4 8 rfl rfl)
theorem dX0_mean_103 : decode cX0_mean 103 = .ok (.invokespecial 408, 3) := dk_183 1 152 (dk_at dksX0_mean_4 9 rfl rfl)
theorem dX0_mean_106 : decode cX0_mean 106 = .ok (.invokevirtual 411, 3) := dk_182 1 155 (dk_at dksX0_mean_4 12 rfl rfl)
theorem dX0_mean_109 : decode cX0_mean 109 = .ok (.lload_n 3, 1) := dk_33 (dk_at dksX0_mean_4 15 rfl rfl)
theorem dX0_mean_110 : decode cX0_mean 110 = .ok (.aload_n 0, 1) := dk_42 (dk_at dksX0_mean_4 16 rfl rfl)
theorem dX0_mean_111 : decode cX0_mean 111 = .ok (.getfield 66, 3) := dk_180 0 66 (dk_at dksX0_mean_4 17 rfl rfl)
theorem dX0_mean_114 : decode cX0_mean 114 = .ok (.invokevirtual 361, 3) := dk_182 1 105 (dk_at dksX0_mean_4 20 rfl rfl)
theorem dX0_mean_117 : decode cX0_mean 117 = .ok (.invokestatic 289, 3) := dk_184 1 33 (dk_at dksX0_mean_5 0 rfl rfl)
theorem dX0_mean_120 : decode cX0_mean 120 = .ok (.i2l, 1) := dk_133 (dk_at dksX0_mean_5 3 rfl rfl)
theorem dX0_mean_121 : decode cX0_mean 121 = .ok (.ladd, 1) := dk_97 (dk_at dksX0_mean_5 4 rfl rfl)
theorem dX0_mean_122 : decode cX0_mean 122 = .ok (.lstore_n 3, 1) := dk_66 (dk_at dksX0_mean_5 5 rfl rfl)
theorem dX0_mean_123 : decode cX0_mean 123 = .ok (.iinc 5 1, 3) := dk_132 5 1 (dk_at dksX0_mean_5 6 rfl rfl)
theorem dX0_mean_126 : decode cX0_mean 126 = .ok (.goto (-59), 3) := dk_167 255 197 (dk_at dksX0_mean_5 9 rfl rfl)
theorem dX0_mean_129 : decode cX0_mean 129 = .ok (.aload_n 0, 1) := dk_42 (dk_at dksX0_mean_5 12 rfl rfl)
theorem dX0_mean_130 : decode cX0_mean 130 = .ok (.lload_n 3, 1) := dk_33 (dk_at dksX0_mean_5 13 rfl rfl)
theorem dX0_mean_131 : decode cX0_mean 131 = .ok (.iload_n 2, 1) := dk_28 (dk_at dksX0_mean_5 14 rfl rfl)
theorem dX0_mean_132 : decode cX0_mean 132 = .ok (.i2l, 1) := dk_133 (dk_at dksX0_mean_5 15 rfl rfl)
theorem dX0_mean_133 : decode cX0_mean 133 = .ok (.invokevirtual 396, 3) := dk_182 1 140 (dk_at dksX0_mean_5 16 rfl rfl)
theorem dX0_mean_136 : decode cX0_mean 136 = .ok (.pop, 1) := dk_87 (dk_at dksX0_mean_5 19 rfl rfl)
theorem dX0_mean_137 : decode cX0_mean 137 = .ok (.iconst 1, 1) := dk_4 (dk_at dksX0_mean_5 20 rfl rfl)
theorem dX0_mean_138 : decode cX0_mean 138 = .ok (.ireturn, 1) := dk_172 (dk_at dksX0_mean_5 21 rfl rfl)
abbrev cX0_mark : ByteArray := prog_1_method_94_code
def yX0_mark : MethodName := ⟨RX0, "mark", "()I"⟩
def dkwX0_mark_3 : List UInt8 := [42, 89, 180, 1, 178, 4, 96, 181, 1, 178, 42, 180, 1, 178, 172]
abbrev dktX0_mark_3 : List UInt8 := dkwX0_mark_3 ++ []
def dkwX0_mark_2 : List UInt8 := [187, 0, 52, 89, 183, 0, 54, 83, 42, 180, 0, 59, 42, 180, 1, 178, 50, 42, 180, 0, 55, 182, 1, 181]
abbrev dktX0_mark_2 : List UInt8 := dkwX0_mark_2 ++ dktX0_mark_3
def dkwX0_mark_1 : List UInt8 := [2, 172, 42, 180, 0, 59, 42, 180, 1, 178, 50, 199, 0, 19, 42, 180, 0, 59, 42, 180, 1, 178]
abbrev dktX0_mark_1 : List UInt8 := dkwX0_mark_1 ++ dktX0_mark_2
def dkwX0_mark_0 : List UInt8 := [42, 42, 180, 1, 178, 6, 160, 0, 7, 7, 167, 0, 4, 3, 181, 0, 76, 42, 180, 0, 76, 158, 0, 5]
abbrev dktX0_mark_0 : List UInt8 := dkwX0_mark_0 ++ dktX0_mark_1
theorem dksX0_mark_0 : cX0_mark.data.toList.drop 0 = dktX0_mark_0 := by decide +kernel
theorem dksX0_mark_1 : cX0_mark.data.toList.drop 24 = dktX0_mark_1 := dk_seg dksX0_mark_0 24 rfl rfl
theorem dksX0_mark_2 : cX0_mark.data.toList.drop 46 = dktX0_mark_2 := dk_seg dksX0_mark_1 22 rfl rfl
theorem dksX0_mark_3 : cX0_mark.data.toList.drop 70 = dktX0_mark_3 := dk_seg dksX0_mark_2 24 rfl rfl
theorem dX0_mark_0 : decode cX0_mark 0 = .ok (.aload_n 0, 1) := dk_42 (dk_at dksX0_mark_0 0 rfl rfl)
theorem dX0_mark_1 : decode cX0_mark 1 = .ok (.aload_n 0, 1) := dk_42 (dk_at dksX0_mark_0 1 rfl rfl)
theorem dX0_mark_2 : decode cX0_mark 2 = .ok (.getfield 434, 3) := dk_180 1 178 (dk_at dksX0_mark_0 2 rfl rfl)
theorem dX0_mark_5 : decode cX0_mark 5 = .ok (.iconst 3, 1) := dk_6 (dk_at dksX0_mark_0 5 rfl rfl)
theorem dX0_mark_6 : decode cX0_mark 6 = .ok (.if_icmp .ne 7, 3) := dk_160 0 7 (dk_at dksX0_mark_0 6 rfl rfl)
theorem dX0_mark_9 : decode cX0_mark 9 = .ok (.iconst 4, 1) := dk_7 (dk_at dksX0_mark_0 9 rfl rfl)
theorem dX0_mark_10 : decode cX0_mark 10 = .ok (.goto 4, 3) := dk_167 0 4 (dk_at dksX0_mark_0 10 rfl rfl)
theorem dX0_mark_13 : decode cX0_mark 13 = .ok (.iconst 0, 1) := dk_3 (dk_at dksX0_mark_0 13 rfl rfl)
theorem dX0_mark_14 : decode cX0_mark 14 = .ok (.putfield 76, 3) := dk_181 0 76 (dk_at dksX0_mark_0 14 rfl rfl)
theorem dX0_mark_17 : decode cX0_mark 17 = .ok (.aload_n 0, 1) := dk_42 (dk_at dksX0_mark_0 17 rfl rfl)
theorem dX0_mark_18 : decode cX0_mark 18 = .ok (.getfield 76, 3) := dk_180 0 76 (dk_at dksX0_mark_0 18 rfl rfl)
theorem dX0_mark_21 : decode cX0_mark 21 = .ok (.ifCond .le 5, 3) := dk_158 0 5 (dk_at dksX0_mark_0 21 rfl rfl)
theorem dX0_mark_24 : decode cX0_mark 24 = .ok (.iconst (-1), 1) := dk_2 (dk_at dksX0_mark_1 0 rfl rfl)
theorem dX0_mark_25 : decode cX0_mark 25 = .ok (.ireturn, 1) := dk_172 (dk_at dksX0_mark_1 1 rfl rfl)
theorem dX0_mark_26 : decode cX0_mark 26 = .ok (.aload_n 0, 1) := dk_42 (dk_at dksX0_mark_1 2 rfl rfl)
theorem dX0_mark_27 : decode cX0_mark 27 = .ok (.getfield 59, 3) := dk_180 0 59 (dk_at dksX0_mark_1 3 rfl rfl)
theorem dX0_mark_30 : decode cX0_mark 30 = .ok (.aload_n 0, 1) := dk_42 (dk_at dksX0_mark_1 6 rfl rfl)
theorem dX0_mark_31 : decode cX0_mark 31 = .ok (.getfield 434, 3) := dk_180 1 178 (dk_at dksX0_mark_1 7 rfl rfl)
theorem dX0_mark_34 : decode cX0_mark 34 = .ok (.aaload, 1) := dk_50 (dk_at dksX0_mark_1 10 rfl rfl)
theorem dX0_mark_35 : decode cX0_mark 35 = .ok (.ifnonnull 19, 3) := dk_199 0 19 (dk_at dksX0_mark_1 11 rfl rfl)
theorem dX0_mark_38 : decode cX0_mark 38 = .ok (.aload_n 0, 1) := dk_42 (dk_at dksX0_mark_1 14 rfl rfl)
theorem dX0_mark_39 : decode cX0_mark 39 = .ok (.getfield 59, 3) := dk_180 0 59 (dk_at dksX0_mark_1 15 rfl rfl)
theorem dX0_mark_42 : decode cX0_mark 42 = .ok (.aload_n 0, 1) := dk_42 (dk_at dksX0_mark_1 18 rfl rfl)
theorem dX0_mark_43 : decode cX0_mark 43 = .ok (.getfield 434, 3) := dk_180 1 178 (dk_at dksX0_mark_1 19 rfl rfl)
theorem dX0_mark_46 : decode cX0_mark 46 = .ok (.new 52, 3) := dk_187 0 52 (dk_at dksX0_mark_2 0 rfl rfl)
theorem dX0_mark_49 : decode cX0_mark 49 = .ok (.dup, 1) := dk_89 (dk_at dksX0_mark_2 3 rfl rfl)
theorem dX0_mark_50 : decode cX0_mark 50 = .ok (.invokespecial 54, 3) := dk_183 0 54 (dk_at dksX0_mark_2 4 rfl rfl)
theorem dX0_mark_53 : decode cX0_mark 53 = .ok (.aastore, 1) := dk_83 (dk_at dksX0_mark_2 7 rfl rfl)
theorem dX0_mark_54 : decode cX0_mark 54 = .ok (.aload_n 0, 1) := dk_42 (dk_at dksX0_mark_2 8 rfl rfl)
theorem dX0_mark_55 : decode cX0_mark 55 = .ok (.getfield 59, 3) := dk_180 0 59 (dk_at dksX0_mark_2 9 rfl rfl)
theorem dX0_mark_58 : decode cX0_mark 58 = .ok (.aload_n 0, 1) := dk_42 (dk_at dksX0_mark_2 12 rfl rfl)
theorem dX0_mark_59 : decode cX0_mark 59 = .ok (.getfield 434, 3) := dk_180 1 178 (dk_at dksX0_mark_2 13 rfl rfl)
theorem dX0_mark_62 : decode cX0_mark 62 = .ok (.aaload, 1) := dk_50 (dk_at dksX0_mark_2 16 rfl rfl)
theorem dX0_mark_63 : decode cX0_mark 63 = .ok (.aload_n 0, 1) := dk_42 (dk_at dksX0_mark_2 17 rfl rfl)
theorem dX0_mark_64 : decode cX0_mark 64 = .ok (.getfield 55, 3) := dk_180 0 55 (dk_at dksX0_mark_2 18 rfl rfl)
theorem dX0_mark_67 : decode cX0_mark 67 = .ok (.invokevirtual 437, 3) := dk_182 1 181 (dk_at dksX0_mark_2 21 rfl rfl)
theorem dX0_mark_70 : decode cX0_mark 70 = .ok (.aload_n 0, 1) := dk_42 (dk_at dksX0_mark_3 0 rfl rfl)
theorem dX0_mark_71 : decode cX0_mark 71 = .ok (.dup, 1) := dk_89 (dk_at dksX0_mark_3 1 rfl rfl)
theorem dX0_mark_72 : decode cX0_mark 72 = .ok (.getfield 434, 3) := dk_180 1 178 (dk_at dksX0_mark_3 2 rfl rfl)
theorem dX0_mark_75 : decode cX0_mark 75 = .ok (.iconst 1, 1) := dk_4 (dk_at dksX0_mark_3 5 rfl rfl)
theorem dX0_mark_76 : decode cX0_mark 76 = .ok (.iadd, 1) := dk_96 (dk_at dksX0_mark_3 6 rfl rfl)
theorem dX0_mark_77 : decode cX0_mark 77 = .ok (.putfield 434, 3) := dk_181 1 178 (dk_at dksX0_mark_3 7 rfl rfl)
theorem dX0_mark_80 : decode cX0_mark 80 = .ok (.aload_n 0, 1) := dk_42 (dk_at dksX0_mark_3 10 rfl rfl)
theorem dX0_mark_81 : decode cX0_mark 81 = .ok (.getfield 434, 3) := dk_180 1 178 (dk_at dksX0_mark_3 11 rfl rfl)
theorem dX0_mark_84 : decode cX0_mark 84 = .ok (.ireturn, 1) := dk_172 (dk_at dksX0_mark_3 14 rfl rfl)
abbrev cX0_undo : ByteArray := prog_1_method_95_code
def yX0_undo : MethodName := ⟨RX0, "undo", "()I"⟩
def dkwX0_undo_2 : List UInt8 := [50, 182, 1, 181, 42, 180, 1, 178, 172]
abbrev dktX0_undo_2 : List UInt8 := dkwX0_undo_2 ++ []
def dkwX0_undo_1 : List UInt8 := [2, 172, 42, 89, 180, 1, 178, 4, 100, 181, 1, 178, 42, 180, 0, 55, 42, 180, 0, 59, 42, 180, 1, 178]
abbrev dktX0_undo_1 : List UInt8 := dkwX0_undo_1 ++ dktX0_undo_2
def dkwX0_undo_0 : List UInt8 := [42, 42, 180, 1, 178, 154, 0, 8, 16, 6, 167, 0, 4, 3, 181, 0, 76, 42, 180, 0, 76, 158, 0, 5]
abbrev dktX0_undo_0 : List UInt8 := dkwX0_undo_0 ++ dktX0_undo_1
theorem dksX0_undo_0 : cX0_undo.data.toList.drop 0 = dktX0_undo_0 := by decide +kernel
theorem dksX0_undo_1 : cX0_undo.data.toList.drop 24 = dktX0_undo_1 := dk_seg dksX0_undo_0 24 rfl rfl
theorem dksX0_undo_2 : cX0_undo.data.toList.drop 48 = dktX0_undo_2 := dk_seg dksX0_undo_1 24 rfl rfl
theorem dX0_undo_0 : decode cX0_undo 0 = .ok (.aload_n 0, 1) := dk_42 (dk_at dksX0_undo_0 0 rfl rfl)
theorem dX0_undo_1 : decode cX0_undo 1 = .ok (.aload_n 0, 1) := dk_42 (dk_at dksX0_undo_0 1 rfl rfl)
theorem dX0_undo_2 : decode cX0_undo 2 = .ok (.getfield 434, 3) := dk_180 1 178 (dk_at dksX0_undo_0 2 rfl rfl)
theorem dX0_undo_5 : decode cX0_undo 5 = .ok (.ifCond .ne 8, 3) := dk_154 0 8 (dk_at dksX0_undo_0 5 rfl rfl)
theorem dX0_undo_8 : decode cX0_undo 8 = .ok (.bipush 6, 2) := dk_16 6 (dk_at dksX0_undo_0 8 rfl rfl)
theorem dX0_undo_10 : decode cX0_undo 10 = .ok (.goto 4, 3) := dk_167 0 4 (dk_at dksX0_undo_0 10 rfl rfl)
theorem dX0_undo_13 : decode cX0_undo 13 = .ok (.iconst 0, 1) := dk_3 (dk_at dksX0_undo_0 13 rfl rfl)
theorem dX0_undo_14 : decode cX0_undo 14 = .ok (.putfield 76, 3) := dk_181 0 76 (dk_at dksX0_undo_0 14 rfl rfl)
theorem dX0_undo_17 : decode cX0_undo 17 = .ok (.aload_n 0, 1) := dk_42 (dk_at dksX0_undo_0 17 rfl rfl)
theorem dX0_undo_18 : decode cX0_undo 18 = .ok (.getfield 76, 3) := dk_180 0 76 (dk_at dksX0_undo_0 18 rfl rfl)
theorem dX0_undo_21 : decode cX0_undo 21 = .ok (.ifCond .le 5, 3) := dk_158 0 5 (dk_at dksX0_undo_0 21 rfl rfl)
theorem dX0_undo_24 : decode cX0_undo 24 = .ok (.iconst (-1), 1) := dk_2 (dk_at dksX0_undo_1 0 rfl rfl)
theorem dX0_undo_25 : decode cX0_undo 25 = .ok (.ireturn, 1) := dk_172 (dk_at dksX0_undo_1 1 rfl rfl)
theorem dX0_undo_26 : decode cX0_undo 26 = .ok (.aload_n 0, 1) := dk_42 (dk_at dksX0_undo_1 2 rfl rfl)
theorem dX0_undo_27 : decode cX0_undo 27 = .ok (.dup, 1) := dk_89 (dk_at dksX0_undo_1 3 rfl rfl)
theorem dX0_undo_28 : decode cX0_undo 28 = .ok (.getfield 434, 3) := dk_180 1 178 (dk_at dksX0_undo_1 4 rfl rfl)
theorem dX0_undo_31 : decode cX0_undo 31 = .ok (.iconst 1, 1) := dk_4 (dk_at dksX0_undo_1 7 rfl rfl)
theorem dX0_undo_32 : decode cX0_undo 32 = .ok (.isub, 1) := dk_100 (dk_at dksX0_undo_1 8 rfl rfl)
theorem dX0_undo_33 : decode cX0_undo 33 = .ok (.putfield 434, 3) := dk_181 1 178 (dk_at dksX0_undo_1 9 rfl rfl)
theorem dX0_undo_36 : decode cX0_undo 36 = .ok (.aload_n 0, 1) := dk_42 (dk_at dksX0_undo_1 12 rfl rfl)
theorem dX0_undo_37 : decode cX0_undo 37 = .ok (.getfield 55, 3) := dk_180 0 55 (dk_at dksX0_undo_1 13 rfl rfl)
theorem dX0_undo_40 : decode cX0_undo 40 = .ok (.aload_n 0, 1) := dk_42 (dk_at dksX0_undo_1 16 rfl rfl)
theorem dX0_undo_41 : decode cX0_undo 41 = .ok (.getfield 59, 3) := dk_180 0 59 (dk_at dksX0_undo_1 17 rfl rfl)
theorem dX0_undo_44 : decode cX0_undo 44 = .ok (.aload_n 0, 1) := dk_42 (dk_at dksX0_undo_1 20 rfl rfl)
theorem dX0_undo_45 : decode cX0_undo 45 = .ok (.getfield 434, 3) := dk_180 1 178 (dk_at dksX0_undo_1 21 rfl rfl)
theorem dX0_undo_48 : decode cX0_undo 48 = .ok (.aaload, 1) := dk_50 (dk_at dksX0_undo_2 0 rfl rfl)
theorem dX0_undo_49 : decode cX0_undo 49 = .ok (.invokevirtual 437, 3) := dk_182 1 181 (dk_at dksX0_undo_2 1 rfl rfl)
theorem dX0_undo_52 : decode cX0_undo 52 = .ok (.aload_n 0, 1) := dk_42 (dk_at dksX0_undo_2 4 rfl rfl)
theorem dX0_undo_53 : decode cX0_undo 53 = .ok (.getfield 434, 3) := dk_180 1 178 (dk_at dksX0_undo_2 5 rfl rfl)
theorem dX0_undo_56 : decode cX0_undo 56 = .ok (.ireturn, 1) := dk_172 (dk_at dksX0_undo_2 8 rfl rfl)
theorem q141 : (Jvm.Cond.initialized "IslandCall") ∈ lw_all := lw_g (lw_at lw_m1 1 rfl) rfl
theorem q170 : (Jvm.Cond.instantiable "IslandCall" (18 : Nat)) ∈ lw_all := lw_g (lw_at lw_m1 30 rfl) rfl
theorem q172 : (Jvm.Cond.instanceMethod ({ cls := "IslandCall", name := "<init>", desc := "()V" } : Jvm.MethodName)) ∈ lw_all := lw_g (lw_at lw_m1 32 rfl) rfl
theorem q173 : (Jvm.Cond.code ({ cls := "IslandCall", name := "<init>", desc := "()V" } : Jvm.MethodName) prog_1_method_7_code (1 : Nat) (Option.none : Option Jvm.ClassFile.FieldType)) ∈ lw_all := lw_g (lw_at lw_m1 33 rfl) rfl
theorem q174 : (Jvm.Cond.methodLink "IslandCall" (9 : Nat) ({ cls := "java/lang/Object", name := "<init>", desc := "()V" } : Jvm.MethodName)) ∈ lw_all := lw_g (lw_at lw_m1 34 rfl) rfl
theorem q177 : (Jvm.Cond.classLink "IslandCall" (15 : Nat) "IslandCall$Tray") ∈ lw_all := lw_g (lw_at lw_m1 37 rfl) rfl
theorem q180 : (Jvm.Cond.methodLinkNest "IslandCall" (17 : Nat) ({ cls := "IslandCall$Tray", name := "<init>", desc := "()V" } : Jvm.MethodName) "IslandCall") ∈ lw_tbl := lw_at lw_m1 40 rfl
theorem q184 : (Jvm.Cond.fieldLinkNest "IslandCall" (105 : Nat) "IslandCall$Tray" "row" "Ljava/lang/Object;" "IslandCall") ∈ lw_tbl := lw_at lw_m1 44 rfl
theorem q188 : (Jvm.Cond.classLink "IslandCall" (34 : Nat) "IslandCall$Bad") ∈ lw_all := lw_g (lw_at lw_m1 48 rfl) rfl
theorem q228 : (Jvm.Cond.methodLink "IslandCall" (36 : Nat) ({ cls := "IslandCall$Bad", name := "<init>", desc := "()V" } : Jvm.MethodName)) ∈ lw_all := lw_g (lw_at lw_m1 88 rfl) rfl
theorem q238 : (Jvm.Cond.fieldLinkNest "IslandCall" (188 : Nat) "IslandCall$Bad" "kind" "I" "IslandCall") ∈ lw_tbl := lw_at lw_m1 98 rfl
theorem q240 : (Jvm.Cond.fieldLinkNest "IslandCall" (191 : Nat) "IslandCall$Bad" "place" "I" "IslandCall") ∈ lw_tbl := lw_at lw_m1 100 rfl
theorem q259 : (Jvm.Cond.classLink "IslandCall" (41 : Nat) "IslandCall$Refused") ∈ lw_all := lw_g (lw_at lw_m1 119 rfl) rfl
theorem q268 : (Jvm.Cond.methodLink "IslandCall" (43 : Nat) ({ cls := "IslandCall$Refused", name := "<init>", desc := "()V" } : Jvm.MethodName)) ∈ lw_all := lw_g (lw_at lw_m1 128 rfl) rfl
theorem q273 : (Jvm.Cond.fieldLinkNest "IslandCall" (86 : Nat) "IslandCall$Refused" "why" "I" "IslandCall") ∈ lw_tbl := lw_at lw_m1 133 rfl
theorem q278 : (Jvm.Cond.classLink "IslandCall" (52 : Nat) "IslandCall$House") ∈ lw_all := lw_g (lw_at lw_m1 138 rfl) rfl
theorem q280 : (Jvm.Cond.methodLinkNest "IslandCall" (54 : Nat) ({ cls := "IslandCall$House", name := "<init>", desc := "()V" } : Jvm.MethodName) "IslandCall") ∈ lw_tbl := lw_at lw_m1 140 rfl
theorem q292 : (Jvm.Cond.fieldLinkNest "IslandCall" (228 : Nat) "IslandCall$Boat" "plank" "I" "IslandCall") ∈ lw_tbl := lw_at lw_m1 152 rfl
theorem q295 : (Jvm.Cond.fieldLinkNest "IslandCall" (231 : Nat) "IslandCall$Boat" "habit" "I" "IslandCall") ∈ lw_tbl := lw_at lw_m1 155 rfl
theorem q299 : (Jvm.Cond.fieldLinkNest "IslandCall" (234 : Nat) "IslandCall$Boat" "odds" "I" "IslandCall") ∈ lw_tbl := lw_at lw_m1 159 rfl
theorem q301 : (Jvm.Cond.fieldLinkNest "IslandCall" (157 : Nat) "IslandCall$Boat" "omens" "I" "IslandCall") ∈ lw_tbl := lw_at lw_m1 161 rfl
theorem q304 : (Jvm.Cond.fieldLinkNest "IslandCall" (164 : Nat) "IslandCall$Boat" "people" "I" "IslandCall") ∈ lw_tbl := lw_at lw_m1 164 rfl
theorem q308 : (Jvm.Cond.fieldLinkNest "IslandCall" (237 : Nat) "IslandCall$Boat" "calls" "I" "IslandCall") ∈ lw_tbl := lw_at lw_m1 168 rfl
theorem q313 : (Jvm.Cond.fieldLinkNest "IslandCall" (174 : Nat) "IslandCall$Boat" "aboard" "I" "IslandCall") ∈ lw_tbl := lw_at lw_m1 173 rfl
theorem q318 : (Jvm.Cond.fieldLinkNest "IslandCall" (240 : Nat) "IslandCall$Boat" "shown" "I" "IslandCall") ∈ lw_tbl := lw_at lw_m1 178 rfl
theorem q325 : (Jvm.Cond.fieldLinkNest "IslandCall" (255 : Nat) "IslandCall$Boat" "pull" "[I" "IslandCall") ∈ lw_tbl := lw_at lw_m1 185 rfl
theorem q329 : (Jvm.Cond.fieldLinkNest "IslandCall" (270 : Nat) "IslandCall$Boat" "hold" "[I" "IslandCall") ∈ lw_tbl := lw_at lw_m1 189 rfl
theorem q332 : (Jvm.Cond.fieldLinkNest "IslandCall" (246 : Nat) "IslandCall$Boat" "excused" "[I" "IslandCall") ∈ lw_tbl := lw_at lw_m1 192 rfl
theorem q335 : (Jvm.Cond.fieldLinkNest "IslandCall" (296 : Nat) "IslandCall$Boat" "blind" "[I" "IslandCall") ∈ lw_tbl := lw_at lw_m1 195 rfl
theorem q337 : (Jvm.Cond.fieldLinkNest "IslandCall" (280 : Nat) "IslandCall$Boat" "sat" "[I" "IslandCall") ∈ lw_tbl := lw_at lw_m1 197 rfl
theorem q339 : (Jvm.Cond.fieldLinkNest "IslandCall" (324 : Nat) "IslandCall$Boat" "roundMany" "I" "IslandCall") ∈ lw_tbl := lw_at lw_m1 199 rfl
theorem q376 : (Jvm.Cond.fieldLinkNest "IslandCall" (150 : Nat) "IslandCall$House" "boat" "LIslandCall$Boat;" "IslandCall") ∈ lw_tbl := lw_at lw_m1 236 rfl
theorem q378 : (Jvm.Cond.fieldLinkNest "IslandCall" (208 : Nat) "IslandCall$House" "years" "LIslandCall$Loop;" "IslandCall") ∈ lw_tbl := lw_at lw_m1 238 rfl
theorem q385 : (Jvm.Cond.classLink "IslandCall" (63 : Nat) "IslandCall$Boat") ∈ lw_all := lw_g (lw_at lw_m2 5 rfl) rfl
theorem q386 : (Jvm.Cond.methodLinkNest "IslandCall" (65 : Nat) ({ cls := "IslandCall$Boat", name := "<init>", desc := "()V" } : Jvm.MethodName) "IslandCall") ∈ lw_tbl := lw_at lw_m2 6 rfl
theorem q387 : (Jvm.Cond.fieldLink "IslandCall" (18 : Nat) "IslandCall" "trays" "[LIslandCall$Tray;") ∈ lw_all := lw_g (lw_at lw_m2 7 rfl) rfl
theorem q389 : (Jvm.Cond.fieldLink "IslandCall" (24 : Nat) "IslandCall" "tape" "[B") ∈ lw_all := lw_g (lw_at lw_m2 9 rfl) rfl
theorem q390 : (Jvm.Cond.fieldLink "IslandCall" (181 : Nat) "IslandCall" "taped" "I") ∈ lw_all := lw_g (lw_at lw_m2 10 rfl) rfl
theorem q391 : (Jvm.Cond.fieldLink "IslandCall" (27 : Nat) "IslandCall" "faultKind" "I") ∈ lw_all := lw_g (lw_at lw_m2 11 rfl) rfl
theorem q392 : (Jvm.Cond.fieldLink "IslandCall" (31 : Nat) "IslandCall" "faultAt" "I") ∈ lw_all := lw_g (lw_at lw_m2 12 rfl) rfl
theorem q394 : (Jvm.Cond.fieldLink "IslandCall" (37 : Nat) "IslandCall" "bad" "LIslandCall$Bad;") ∈ lw_all := lw_g (lw_at lw_m2 14 rfl) rfl
theorem q395 : (Jvm.Cond.fieldLink "IslandCall" (44 : Nat) "IslandCall" "refused" "LIslandCall$Refused;") ∈ lw_all := lw_g (lw_at lw_m2 15 rfl) rfl
theorem q396 : (Jvm.Cond.fieldLink "IslandCall" (76 : Nat) "IslandCall" "status" "I") ∈ lw_all := lw_g (lw_at lw_m2 16 rfl) rfl
theorem q397 : (Jvm.Cond.fieldLink "IslandCall" (79 : Nat) "IslandCall" "above" "J") ∈ lw_all := lw_g (lw_at lw_m2 17 rfl) rfl
theorem q398 : (Jvm.Cond.fieldLink "IslandCall" (48 : Nat) "IslandCall" "under" "J") ∈ lw_all := lw_g (lw_at lw_m2 18 rfl) rfl
theorem q399 : (Jvm.Cond.fieldLink "IslandCall" (55 : Nat) "IslandCall" "now" "LIslandCall$House;") ∈ lw_all := lw_g (lw_at lw_m2 19 rfl) rfl
theorem q400 : (Jvm.Cond.fieldLink "IslandCall" (59 : Nat) "IslandCall" "marks" "[LIslandCall$House;") ∈ lw_all := lw_g (lw_at lw_m2 20 rfl) rfl
theorem q401 : (Jvm.Cond.fieldLink "IslandCall" (434 : Nat) "IslandCall" "markMany" "I") ∈ lw_all := lw_g (lw_at lw_m2 21 rfl) rfl
theorem q402 : (Jvm.Cond.fieldLink "IslandCall" (66 : Nat) "IslandCall" "aside" "LIslandCall$Boat;") ∈ lw_all := lw_g (lw_at lw_m2 22 rfl) rfl
theorem q403 : (Jvm.Cond.fieldLink "IslandCall" (391 : Nat) "IslandCall" "firstMove" "I") ∈ lw_all := lw_g (lw_at lw_m2 23 rfl) rfl
theorem q404 : (Jvm.Cond.fieldLink "IslandCall" (70 : Nat) "IslandCall" "chances" "[J") ∈ lw_all := lw_g (lw_at lw_m2 24 rfl) rfl
theorem q405 : (Jvm.Cond.fieldLink "IslandCall" (73 : Nat) "IslandCall" "last" "[I") ∈ lw_all := lw_g (lw_at lw_m2 25 rfl) rfl
theorem q406 : (Jvm.Cond.fieldLink "IslandCall" (426 : Nat) "IslandCall" "hasLived" "Z") ∈ lw_all := lw_g (lw_at lw_m2 26 rfl) rfl
theorem q407 : (Jvm.Cond.laysFinal "IslandCall" "IslandCall" "trays" "[LIslandCall$Tray;") ∈ lw_all := lw_g (lw_at lw_m2 27 rfl) rfl
theorem q408 : (Jvm.Cond.soleField "IslandCall" "trays") ∈ lw_all := lw_g (lw_at lw_m2 28 rfl) rfl
theorem q409 : (Jvm.Cond.laysFinal "IslandCall" "IslandCall" "tape" "[B") ∈ lw_all := lw_g (lw_at lw_m2 29 rfl) rfl
theorem q410 : (Jvm.Cond.soleField "IslandCall" "tape") ∈ lw_all := lw_g (lw_at lw_m2 30 rfl) rfl
theorem q411 : (Jvm.Cond.lays "IslandCall" "IslandCall" "taped" "I") ∈ lw_all := lw_g (lw_at lw_m2 31 rfl) rfl
theorem q412 : (Jvm.Cond.soleField "IslandCall" "taped") ∈ lw_all := lw_g (lw_at lw_m2 32 rfl) rfl
theorem q413 : (Jvm.Cond.lays "IslandCall" "IslandCall" "faultKind" "I") ∈ lw_all := lw_g (lw_at lw_m2 33 rfl) rfl
theorem q414 : (Jvm.Cond.soleField "IslandCall" "faultKind") ∈ lw_all := lw_g (lw_at lw_m2 34 rfl) rfl
theorem q415 : (Jvm.Cond.lays "IslandCall" "IslandCall" "faultAt" "I") ∈ lw_all := lw_g (lw_at lw_m2 35 rfl) rfl
theorem q416 : (Jvm.Cond.soleField "IslandCall" "faultAt") ∈ lw_all := lw_g (lw_at lw_m2 36 rfl) rfl
theorem q417 : (Jvm.Cond.laysFinal "IslandCall" "IslandCall" "bad" "LIslandCall$Bad;") ∈ lw_all := lw_g (lw_at lw_m2 37 rfl) rfl
theorem q418 : (Jvm.Cond.soleField "IslandCall" "bad") ∈ lw_all := lw_g (lw_at lw_m2 38 rfl) rfl
theorem q419 : (Jvm.Cond.laysFinal "IslandCall" "IslandCall" "refused" "LIslandCall$Refused;") ∈ lw_all := lw_g (lw_at lw_m2 39 rfl) rfl
theorem q420 : (Jvm.Cond.soleField "IslandCall" "refused") ∈ lw_all := lw_g (lw_at lw_m2 40 rfl) rfl
theorem q421 : (Jvm.Cond.lays "IslandCall" "IslandCall" "status" "I") ∈ lw_all := lw_g (lw_at lw_m2 41 rfl) rfl
theorem q422 : (Jvm.Cond.soleField "IslandCall" "status") ∈ lw_all := lw_g (lw_at lw_m2 42 rfl) rfl
theorem q423 : (Jvm.Cond.lays "IslandCall" "IslandCall" "above" "J") ∈ lw_all := lw_g (lw_at lw_m2 43 rfl) rfl
theorem q424 : (Jvm.Cond.soleField "IslandCall" "above") ∈ lw_all := lw_g (lw_at lw_m2 44 rfl) rfl
theorem q425 : (Jvm.Cond.lays "IslandCall" "IslandCall" "under" "J") ∈ lw_all := lw_g (lw_at lw_m2 45 rfl) rfl
theorem q426 : (Jvm.Cond.soleField "IslandCall" "under") ∈ lw_all := lw_g (lw_at lw_m2 46 rfl) rfl
theorem q427 : (Jvm.Cond.laysFinal "IslandCall" "IslandCall" "now" "LIslandCall$House;") ∈ lw_all := lw_g (lw_at lw_m2 47 rfl) rfl
theorem q428 : (Jvm.Cond.soleField "IslandCall" "now") ∈ lw_all := lw_g (lw_at lw_m2 48 rfl) rfl
theorem q429 : (Jvm.Cond.laysFinal "IslandCall" "IslandCall" "marks" "[LIslandCall$House;") ∈ lw_all := lw_g (lw_at lw_m2 49 rfl) rfl
theorem q430 : (Jvm.Cond.soleField "IslandCall" "marks") ∈ lw_all := lw_g (lw_at lw_m2 50 rfl) rfl
theorem q431 : (Jvm.Cond.lays "IslandCall" "IslandCall" "markMany" "I") ∈ lw_all := lw_g (lw_at lw_m2 51 rfl) rfl
theorem q432 : (Jvm.Cond.soleField "IslandCall" "markMany") ∈ lw_all := lw_g (lw_at lw_m2 52 rfl) rfl
theorem q433 : (Jvm.Cond.laysFinal "IslandCall" "IslandCall" "aside" "LIslandCall$Boat;") ∈ lw_all := lw_g (lw_at lw_m2 53 rfl) rfl
theorem q434 : (Jvm.Cond.soleField "IslandCall" "aside") ∈ lw_all := lw_g (lw_at lw_m2 54 rfl) rfl
theorem q435 : (Jvm.Cond.lays "IslandCall" "IslandCall" "firstMove" "I") ∈ lw_all := lw_g (lw_at lw_m2 55 rfl) rfl
theorem q436 : (Jvm.Cond.soleField "IslandCall" "firstMove") ∈ lw_all := lw_g (lw_at lw_m2 56 rfl) rfl
theorem q437 : (Jvm.Cond.laysFinal "IslandCall" "IslandCall" "chances" "[J") ∈ lw_all := lw_g (lw_at lw_m2 57 rfl) rfl
theorem q438 : (Jvm.Cond.soleField "IslandCall" "chances") ∈ lw_all := lw_g (lw_at lw_m2 58 rfl) rfl
theorem q439 : (Jvm.Cond.laysFinal "IslandCall" "IslandCall" "last" "[I") ∈ lw_all := lw_g (lw_at lw_m2 59 rfl) rfl
theorem q440 : (Jvm.Cond.soleField "IslandCall" "last") ∈ lw_all := lw_g (lw_at lw_m2 60 rfl) rfl
theorem q441 : (Jvm.Cond.lays "IslandCall" "IslandCall" "hasLived" "Z") ∈ lw_all := lw_g (lw_at lw_m2 61 rfl) rfl
theorem q442 : (Jvm.Cond.soleField "IslandCall" "hasLived") ∈ lw_all := lw_g (lw_at lw_m2 62 rfl) rfl
theorem q443 : (Jvm.Cond.superclass "IslandCall" "java/lang/Object") ∈ lw_all := lw_g (lw_at lw_m2 63 rfl) rfl
theorem q445 : (Jvm.Cond.instanceMethod ({ cls := "IslandCall", name := "status", desc := "()I" } : Jvm.MethodName)) ∈ lw_all := lw_g (lw_at lw_m2 65 rfl) rfl
theorem q446 : (Jvm.Cond.selects "IslandCall" ({ cls := "IslandCall", name := "status", desc := "()I" } : Jvm.MethodName) ({ cls := "IslandCall", name := "status", desc := "()I" } : Jvm.MethodName)) ∈ lw_all := lw_g (lw_at lw_m2 66 rfl) rfl
theorem q447 : (Jvm.Cond.code ({ cls := "IslandCall", name := "status", desc := "()I" } : Jvm.MethodName) prog_1_method_8_code (1 : Nat) (Option.some Jvm.ClassFile.FieldType.int)) ∈ lw_all := lw_g (lw_at lw_m2 67 rfl) rfl
theorem q449 : (Jvm.Cond.instanceMethod ({ cls := "IslandCall", name := "top", desc := "()J" } : Jvm.MethodName)) ∈ lw_all := lw_g (lw_at lw_m2 69 rfl) rfl
theorem q450 : (Jvm.Cond.selects "IslandCall" ({ cls := "IslandCall", name := "top", desc := "()J" } : Jvm.MethodName) ({ cls := "IslandCall", name := "top", desc := "()J" } : Jvm.MethodName)) ∈ lw_all := lw_g (lw_at lw_m2 70 rfl) rfl
theorem q451 : (Jvm.Cond.code ({ cls := "IslandCall", name := "top", desc := "()J" } : Jvm.MethodName) prog_1_method_9_code (1 : Nat) (Option.some Jvm.ClassFile.FieldType.long)) ∈ lw_all := lw_g (lw_at lw_m2 71 rfl) rfl
theorem q453 : (Jvm.Cond.instanceMethod ({ cls := "IslandCall", name := "bottom", desc := "()J" } : Jvm.MethodName)) ∈ lw_all := lw_g (lw_at lw_m2 73 rfl) rfl
theorem q454 : (Jvm.Cond.selects "IslandCall" ({ cls := "IslandCall", name := "bottom", desc := "()J" } : Jvm.MethodName) ({ cls := "IslandCall", name := "bottom", desc := "()J" } : Jvm.MethodName)) ∈ lw_all := lw_g (lw_at lw_m2 74 rfl) rfl
theorem q455 : (Jvm.Cond.code ({ cls := "IslandCall", name := "bottom", desc := "()J" } : Jvm.MethodName) prog_1_method_10_code (1 : Nat) (Option.some Jvm.ClassFile.FieldType.long)) ∈ lw_all := lw_g (lw_at lw_m2 75 rfl) rfl
theorem q457 : (Jvm.Cond.instanceMethod ({ cls := "IslandCall", name := "tray", desc := "(III)Z" } : Jvm.MethodName)) ∈ lw_all := lw_g (lw_at lw_m2 77 rfl) rfl
theorem q458 : (Jvm.Cond.selects "IslandCall" ({ cls := "IslandCall", name := "tray", desc := "(III)Z" } : Jvm.MethodName) ({ cls := "IslandCall", name := "tray", desc := "(III)Z" } : Jvm.MethodName)) ∈ lw_all := lw_g (lw_at lw_m2 78 rfl) rfl
theorem q459 : (Jvm.Cond.codeWith ({ cls := "IslandCall", name := "tray", desc := "(III)Z" } : Jvm.MethodName) prog_1_method_16_code (5 : Nat) (Option.some Jvm.ClassFile.FieldType.boolean) [((5 : Nat), (54 : Nat), (55 : Nat), (112 : Nat)), ((5 : Nat), (54 : Nat), (64 : Nat), (41 : Nat))]) ∈ lw_all := lw_g (lw_at lw_m2 79 rfl) rfl
theorem q460 : (Jvm.Cond.classLink "IslandCall" (112 : Nat) "java/lang/NegativeArraySizeException") ∈ lw_all := lw_g (lw_at lw_m2 80 rfl) rfl
theorem q489 : (Jvm.Cond.methodLink "IslandCall" (101 : Nat) ({ cls := "IslandCall", name := "want", desc := "(ZI)V" } : Jvm.MethodName)) ∈ lw_all := lw_g (lw_at lw_m2 109 rfl) rfl
theorem q490 : (Jvm.Cond.privateMethod ({ cls := "IslandCall", name := "want", desc := "(ZI)V" } : Jvm.MethodName)) ∈ lw_tbl := lw_at lw_m2 110 rfl
theorem q491 : (Jvm.Cond.instanceMethod ({ cls := "IslandCall", name := "want", desc := "(ZI)V" } : Jvm.MethodName)) ∈ lw_all := lw_g (lw_at lw_m2 111 rfl) rfl
theorem q492 : (Jvm.Cond.code ({ cls := "IslandCall", name := "want", desc := "(ZI)V" } : Jvm.MethodName) prog_1_method_11_code (3 : Nat) (Option.none : Option Jvm.ClassFile.FieldType)) ∈ lw_all := lw_g (lw_at lw_m2 112 rfl) rfl
theorem q493 : (Jvm.Cond.methodLink "IslandCall" (82 : Nat) ({ cls := "IslandCall$Refused", name := "by", desc := "(I)LIslandCall$Refused;" } : Jvm.MethodName)) ∈ lw_all := lw_g (lw_at lw_m2 113 rfl) rfl
theorem q497 : (Jvm.Cond.methodLink "IslandCall" (109 : Nat) ({ cls := "IslandCall", name := "row", desc := "(II)Ljava/lang/Object;" } : Jvm.MethodName)) ∈ lw_all := lw_g (lw_at lw_m2 117 rfl) rfl
theorem q498 : (Jvm.Cond.static ({ cls := "IslandCall", name := "row", desc := "(II)Ljava/lang/Object;" } : Jvm.MethodName)) ∈ lw_all := lw_g (lw_at lw_m2 118 rfl) rfl
theorem q499 : (Jvm.Cond.code ({ cls := "IslandCall", name := "row", desc := "(II)Ljava/lang/Object;" } : Jvm.MethodName) prog_1_method_1_code (2 : Nat) (Option.some (Jvm.ClassFile.FieldType.object "java/lang/Object"))) ∈ lw_all := lw_g (lw_at lw_m2 119 rfl) rfl
theorem q500 : (Jvm.Cond.methodLink "IslandCall" (114 : Nat) ({ cls := "IslandCall", name := "no", desc := "(LIslandCall$Refused;)Z" } : Jvm.MethodName)) ∈ lw_all := lw_g (lw_at lw_m2 120 rfl) rfl
theorem q501 : (Jvm.Cond.privateMethod ({ cls := "IslandCall", name := "no", desc := "(LIslandCall$Refused;)Z" } : Jvm.MethodName)) ∈ lw_tbl := lw_at lw_m2 121 rfl
theorem q502 : (Jvm.Cond.instanceMethod ({ cls := "IslandCall", name := "no", desc := "(LIslandCall$Refused;)Z" } : Jvm.MethodName)) ∈ lw_all := lw_g (lw_at lw_m2 122 rfl) rfl
theorem q503 : (Jvm.Cond.code ({ cls := "IslandCall", name := "no", desc := "(LIslandCall$Refused;)Z" } : Jvm.MethodName) prog_1_method_13_code (2 : Nat) (Option.some Jvm.ClassFile.FieldType.boolean)) ∈ lw_all := lw_g (lw_at lw_m2 123 rfl) rfl
theorem q506 : (Jvm.Cond.instanceMethod ({ cls := "IslandCall", name := "write", desc := "(IIJ)Z" } : Jvm.MethodName)) ∈ lw_all := lw_g (lw_at lw_m2 126 rfl) rfl
theorem q507 : (Jvm.Cond.selects "IslandCall" ({ cls := "IslandCall", name := "write", desc := "(IIJ)Z" } : Jvm.MethodName) ({ cls := "IslandCall", name := "write", desc := "(IIJ)Z" } : Jvm.MethodName)) ∈ lw_all := lw_g (lw_at lw_m2 127 rfl) rfl
theorem q508 : (Jvm.Cond.codeWith ({ cls := "IslandCall", name := "write", desc := "(IIJ)Z" } : Jvm.MethodName) prog_1_method_17_code (6 : Nat) (Option.some Jvm.ClassFile.FieldType.boolean) [((5 : Nat), (16 : Nat), (17 : Nat), (126 : Nat)), ((5 : Nat), (16 : Nat), (26 : Nat), (41 : Nat))]) ∈ lw_all := lw_g (lw_at lw_m2 128 rfl) rfl
theorem q509 : (Jvm.Cond.classLink "IslandCall" (126 : Nat) "java/lang/ArrayIndexOutOfBoundsException") ∈ lw_all := lw_g (lw_at lw_m2 129 rfl) rfl
theorem q528 : (Jvm.Cond.methodLink "IslandCall" (118 : Nat) ({ cls := "IslandCall", name := "on", desc := "(I)Ljava/lang/Object;" } : Jvm.MethodName)) ∈ lw_all := lw_g (lw_at lw_m2 148 rfl) rfl
theorem q529 : (Jvm.Cond.privateMethod ({ cls := "IslandCall", name := "on", desc := "(I)Ljava/lang/Object;" } : Jvm.MethodName)) ∈ lw_tbl := lw_at lw_m2 149 rfl
theorem q530 : (Jvm.Cond.instanceMethod ({ cls := "IslandCall", name := "on", desc := "(I)Ljava/lang/Object;" } : Jvm.MethodName)) ∈ lw_all := lw_g (lw_at lw_m2 150 rfl) rfl
theorem q531 : (Jvm.Cond.code ({ cls := "IslandCall", name := "on", desc := "(I)Ljava/lang/Object;" } : Jvm.MethodName) prog_1_method_15_code (2 : Nat) (Option.some (Jvm.ClassFile.FieldType.object "java/lang/Object"))) ∈ lw_all := lw_g (lw_at lw_m2 151 rfl) rfl
theorem q532 : (Jvm.Cond.methodLink "IslandCall" (122 : Nat) ({ cls := "IslandCall", name := "put", desc := "(Ljava/lang/Object;IJ)V" } : Jvm.MethodName)) ∈ lw_all := lw_g (lw_at lw_m2 152 rfl) rfl
theorem q533 : (Jvm.Cond.static ({ cls := "IslandCall", name := "put", desc := "(Ljava/lang/Object;IJ)V" } : Jvm.MethodName)) ∈ lw_all := lw_g (lw_at lw_m2 153 rfl) rfl
theorem q534 : (Jvm.Cond.code ({ cls := "IslandCall", name := "put", desc := "(Ljava/lang/Object;IJ)V" } : Jvm.MethodName) prog_1_method_5_code (7 : Nat) (Option.none : Option Jvm.ClassFile.FieldType)) ∈ lw_all := lw_g (lw_at lw_m2 154 rfl) rfl
theorem q535 : (Jvm.Cond.classLink "IslandCall" (1 : Nat) "[B") ∈ lw_all := lw_g (lw_at lw_m2 155 rfl) rfl
theorem q536 : (Jvm.Cond.classLink "IslandCall" (3 : Nat) "[S") ∈ lw_all := lw_g (lw_at lw_m2 156 rfl) rfl
theorem q537 : (Jvm.Cond.classLink "IslandCall" (5 : Nat) "[I") ∈ lw_all := lw_g (lw_at lw_m2 157 rfl) rfl
theorem q538 : (Jvm.Cond.classLink "IslandCall" (7 : Nat) "[J") ∈ lw_all := lw_g (lw_at lw_m2 158 rfl) rfl
theorem q540 : (Jvm.Cond.instanceMethod ({ cls := "IslandCall", name := "read", desc := "(II)J" } : Jvm.MethodName)) ∈ lw_all := lw_g (lw_at lw_m2 160 rfl) rfl
theorem q541 : (Jvm.Cond.selects "IslandCall" ({ cls := "IslandCall", name := "read", desc := "(II)J" } : Jvm.MethodName) ({ cls := "IslandCall", name := "read", desc := "(II)J" } : Jvm.MethodName)) ∈ lw_all := lw_g (lw_at lw_m2 161 rfl) rfl
theorem q542 : (Jvm.Cond.codeWith ({ cls := "IslandCall", name := "read", desc := "(II)J" } : Jvm.MethodName) prog_1_method_18_code (4 : Nat) (Option.some Jvm.ClassFile.FieldType.long) [((5 : Nat), (14 : Nat), (15 : Nat), (126 : Nat)), ((5 : Nat), (14 : Nat), (25 : Nat), (41 : Nat))]) ∈ lw_all := lw_g (lw_at lw_m2 162 rfl) rfl
theorem q543 : (Jvm.Cond.methodLink "IslandCall" (128 : Nat) ({ cls := "IslandCall", name := "number", desc := "(Ljava/lang/Object;I)J" } : Jvm.MethodName)) ∈ lw_all := lw_g (lw_at lw_m2 163 rfl) rfl
theorem q544 : (Jvm.Cond.static ({ cls := "IslandCall", name := "number", desc := "(Ljava/lang/Object;I)J" } : Jvm.MethodName)) ∈ lw_all := lw_g (lw_at lw_m2 164 rfl) rfl
theorem q545 : (Jvm.Cond.code ({ cls := "IslandCall", name := "number", desc := "(Ljava/lang/Object;I)J" } : Jvm.MethodName) prog_1_method_4_code (3 : Nat) (Option.some Jvm.ClassFile.FieldType.long)) ∈ lw_all := lw_g (lw_at lw_m2 165 rfl) rfl
theorem q546 : (Jvm.Cond.constantLong "IslandCall" (132 : Nat) (-1 : Int64)) ∈ lw_all := lw_g (lw_at lw_m2 166 rfl) rfl
theorem q547 : (Jvm.Cond.methodLink "IslandCall" (134 : Nat) ({ cls := "IslandCall", name := "none", desc := "(LIslandCall$Refused;)I" } : Jvm.MethodName)) ∈ lw_all := lw_g (lw_at lw_m2 167 rfl) rfl
theorem q548 : (Jvm.Cond.privateMethod ({ cls := "IslandCall", name := "none", desc := "(LIslandCall$Refused;)I" } : Jvm.MethodName)) ∈ lw_tbl := lw_at lw_m2 168 rfl
theorem q549 : (Jvm.Cond.instanceMethod ({ cls := "IslandCall", name := "none", desc := "(LIslandCall$Refused;)I" } : Jvm.MethodName)) ∈ lw_all := lw_g (lw_at lw_m2 169 rfl) rfl
theorem q550 : (Jvm.Cond.code ({ cls := "IslandCall", name := "none", desc := "(LIslandCall$Refused;)I" } : Jvm.MethodName) prog_1_method_12_code (2 : Nat) (Option.some Jvm.ClassFile.FieldType.int)) ∈ lw_all := lw_g (lw_at lw_m2 170 rfl) rfl
theorem q552 : (Jvm.Cond.instanceMethod ({ cls := "IslandCall", name := "pour", desc := "(IIIII)Z" } : Jvm.MethodName)) ∈ lw_all := lw_g (lw_at lw_m2 172 rfl) rfl
theorem q553 : (Jvm.Cond.selects "IslandCall" ({ cls := "IslandCall", name := "pour", desc := "(IIIII)Z" } : Jvm.MethodName) ({ cls := "IslandCall", name := "pour", desc := "(IIIII)Z" } : Jvm.MethodName)) ∈ lw_all := lw_g (lw_at lw_m2 173 rfl) rfl
theorem q554 : (Jvm.Cond.codeWith ({ cls := "IslandCall", name := "pour", desc := "(IIIII)Z" } : Jvm.MethodName) prog_1_method_19_code (9 : Nat) (Option.some Jvm.ClassFile.FieldType.boolean) [((85 : Nat), (97 : Nat), (100 : Nat), (148 : Nat)), ((5 : Nat), (112 : Nat), (113 : Nat), (41 : Nat))]) ∈ lw_all := lw_g (lw_at lw_m2 174 rfl) rfl
theorem q555 : (Jvm.Cond.classLink "IslandCall" (148 : Nat) "java/lang/IndexOutOfBoundsException") ∈ lw_all := lw_g (lw_at lw_m2 175 rfl) rfl
theorem q556 : (Jvm.Cond.methodLink "IslandCall" (138 : Nat) ({ cls := "IslandCall", name := "sortOf", desc := "(Ljava/lang/Object;)I" } : Jvm.MethodName)) ∈ lw_all := lw_g (lw_at lw_m2 176 rfl) rfl
theorem q557 : (Jvm.Cond.static ({ cls := "IslandCall", name := "sortOf", desc := "(Ljava/lang/Object;)I" } : Jvm.MethodName)) ∈ lw_all := lw_g (lw_at lw_m2 177 rfl) rfl
theorem q558 : (Jvm.Cond.code ({ cls := "IslandCall", name := "sortOf", desc := "(Ljava/lang/Object;)I" } : Jvm.MethodName) prog_1_method_2_code (1 : Nat) (Option.some Jvm.ClassFile.FieldType.int)) ∈ lw_all := lw_g (lw_at lw_m2 178 rfl) rfl
theorem q559 : (Jvm.Cond.methodLink "IslandCall" (142 : Nat) ({ cls := "java/lang/System", name := "arraycopy", desc := "(Ljava/lang/Object;ILjava/lang/Object;II)V" } : Jvm.MethodName)) ∈ lw_all := lw_g (lw_at lw_m2 179 rfl) rfl
theorem q563 : (Jvm.Cond.instanceMethod ({ cls := "IslandCall", name := "feed", desc := "(IIIII)I" } : Jvm.MethodName)) ∈ lw_all := lw_g (lw_at lw_m2 183 rfl) rfl
theorem q564 : (Jvm.Cond.selects "IslandCall" ({ cls := "IslandCall", name := "feed", desc := "(IIIII)I" } : Jvm.MethodName) ({ cls := "IslandCall", name := "feed", desc := "(IIIII)I" } : Jvm.MethodName)) ∈ lw_all := lw_g (lw_at lw_m2 184 rfl) rfl
theorem q565 : (Jvm.Cond.code ({ cls := "IslandCall", name := "feed", desc := "(IIIII)I" } : Jvm.MethodName) prog_1_method_29_code (6 : Nat) (Option.some Jvm.ClassFile.FieldType.int)) ∈ lw_all := lw_g (lw_at lw_m2 185 rfl) rfl
theorem q566 : (Jvm.Cond.methodLink "IslandCall" (184 : Nat) ({ cls := "IslandCall", name := "lay", desc := "(I)V" } : Jvm.MethodName)) ∈ lw_all := lw_g (lw_at lw_m2 186 rfl) rfl
theorem q567 : (Jvm.Cond.privateMethod ({ cls := "IslandCall", name := "lay", desc := "(I)V" } : Jvm.MethodName)) ∈ lw_tbl := lw_at lw_m2 187 rfl
theorem q568 : (Jvm.Cond.instanceMethod ({ cls := "IslandCall", name := "lay", desc := "(I)V" } : Jvm.MethodName)) ∈ lw_all := lw_g (lw_at lw_m2 188 rfl) rfl
theorem q569 : (Jvm.Cond.code ({ cls := "IslandCall", name := "lay", desc := "(I)V" } : Jvm.MethodName) prog_1_method_30_code (3 : Nat) (Option.none : Option Jvm.ClassFile.FieldType)) ∈ lw_all := lw_g (lw_at lw_m2 189 rfl) rfl
theorem q571 : (Jvm.Cond.instanceMethod ({ cls := "IslandCall", name := "boat", desc := "(I)I" } : Jvm.MethodName)) ∈ lw_all := lw_g (lw_at lw_m2 191 rfl) rfl
theorem q572 : (Jvm.Cond.selects "IslandCall" ({ cls := "IslandCall", name := "boat", desc := "(I)I" } : Jvm.MethodName) ({ cls := "IslandCall", name := "boat", desc := "(I)I" } : Jvm.MethodName)) ∈ lw_all := lw_g (lw_at lw_m2 192 rfl) rfl
theorem q573 : (Jvm.Cond.codeWith ({ cls := "IslandCall", name := "boat", desc := "(I)I" } : Jvm.MethodName) prog_1_method_33_code (3 : Nat) (Option.some Jvm.ClassFile.FieldType.int) [((13 : Nat), (54 : Nat), (55 : Nat), (34 : Nat))]) ∈ lw_all := lw_g (lw_at lw_m2 193 rfl) rfl
theorem q574 : (Jvm.Cond.methodLink "IslandCall" (194 : Nat) ({ cls := "IslandCall", name := "opens", desc := "(II)Z" } : Jvm.MethodName)) ∈ lw_all := lw_g (lw_at lw_m2 194 rfl) rfl
theorem q575 : (Jvm.Cond.privateMethod ({ cls := "IslandCall", name := "opens", desc := "(II)Z" } : Jvm.MethodName)) ∈ lw_tbl := lw_at lw_m2 195 rfl
theorem q576 : (Jvm.Cond.instanceMethod ({ cls := "IslandCall", name := "opens", desc := "(II)Z" } : Jvm.MethodName)) ∈ lw_all := lw_g (lw_at lw_m2 196 rfl) rfl
theorem q577 : (Jvm.Cond.code ({ cls := "IslandCall", name := "opens", desc := "(II)Z" } : Jvm.MethodName) prog_1_method_31_code (3 : Nat) (Option.some Jvm.ClassFile.FieldType.boolean)) ∈ lw_all := lw_g (lw_at lw_m2 197 rfl) rfl
theorem q578 : (Jvm.Cond.classLink "IslandCall" (197 : Nat) "IslandCall$Reader") ∈ lw_all := lw_g (lw_at lw_m2 198 rfl) rfl
theorem q580 : (Jvm.Cond.methodLink "IslandCall" (199 : Nat) ({ cls := "IslandCall$Reader", name := "<init>", desc := "(LIslandCall;I)V" } : Jvm.MethodName)) ∈ lw_all := lw_g (lw_at lw_m2 200 rfl) rfl
theorem q602 : (Jvm.Cond.fieldLinkNest "IslandCall" (223 : Nat) "IslandCall$Reader" "steps" "I" "IslandCall") ∈ lw_tbl := lw_at lw_m2 222 rfl
theorem q622 : (Jvm.Cond.methodLink "IslandCall" (202 : Nat) ({ cls := "IslandCall$Reader", name := "boat", desc := "(LIslandCall$Boat;)V" } : Jvm.MethodName)) ∈ lw_all := lw_g (lw_at lw_m3 2 rfl) rfl
theorem q684 : (Jvm.Cond.static ({ cls := "IslandCall", name := "has", desc := "(II)Z" } : Jvm.MethodName)) ∈ lw_all := lw_g (lw_at lw_m3 64 rfl) rfl
theorem q685 : (Jvm.Cond.code ({ cls := "IslandCall", name := "has", desc := "(II)Z" } : Jvm.MethodName) prog_1_method_6_code (2 : Nat) (Option.some Jvm.ClassFile.FieldType.boolean)) ∈ lw_all := lw_g (lw_at lw_m3 65 rfl) rfl
theorem q796 : (Jvm.Cond.methodLink "IslandCall" (153 : Nat) ({ cls := "IslandCall", name := "at", desc := "()LIslandCall$Boat;" } : Jvm.MethodName)) ∈ lw_all := lw_g (lw_at lw_m3 176 rfl) rfl
theorem q797 : (Jvm.Cond.privateMethod ({ cls := "IslandCall", name := "at", desc := "()LIslandCall$Boat;" } : Jvm.MethodName)) ∈ lw_tbl := lw_at lw_m3 177 rfl
theorem q798 : (Jvm.Cond.instanceMethod ({ cls := "IslandCall", name := "at", desc := "()LIslandCall$Boat;" } : Jvm.MethodName)) ∈ lw_all := lw_g (lw_at lw_m3 178 rfl) rfl
theorem q799 : (Jvm.Cond.code ({ cls := "IslandCall", name := "at", desc := "()LIslandCall$Boat;" } : Jvm.MethodName) prog_1_method_21_code (1 : Nat) (Option.some (Jvm.ClassFile.FieldType.object "IslandCall$Boat"))) ∈ lw_all := lw_g (lw_at lw_m3 179 rfl) rfl
theorem q800 : (Jvm.Cond.methodLink "IslandCall" (205 : Nat) ({ cls := "IslandCall$Boat", name := "be", desc := "(LIslandCall$Boat;)V" } : Jvm.MethodName)) ∈ lw_all := lw_g (lw_at lw_m3 180 rfl) rfl
theorem q808 : (Jvm.Cond.methodLink "IslandCall" (212 : Nat) ({ cls := "IslandCall", name := "faulty", desc := "(LIslandCall$Bad;)I" } : Jvm.MethodName)) ∈ lw_all := lw_g (lw_at lw_m3 188 rfl) rfl
theorem q809 : (Jvm.Cond.privateMethod ({ cls := "IslandCall", name := "faulty", desc := "(LIslandCall$Bad;)I" } : Jvm.MethodName)) ∈ lw_tbl := lw_at lw_m3 189 rfl
theorem q810 : (Jvm.Cond.instanceMethod ({ cls := "IslandCall", name := "faulty", desc := "(LIslandCall$Bad;)I" } : Jvm.MethodName)) ∈ lw_all := lw_g (lw_at lw_m3 190 rfl) rfl
theorem q811 : (Jvm.Cond.code ({ cls := "IslandCall", name := "faulty", desc := "(LIslandCall$Bad;)I" } : Jvm.MethodName) prog_1_method_32_code (2 : Nat) (Option.some Jvm.ClassFile.FieldType.int)) ∈ lw_all := lw_g (lw_at lw_m3 191 rfl) rfl
theorem q813 : (Jvm.Cond.instanceMethod ({ cls := "IslandCall", name := "years", desc := "(I)I" } : Jvm.MethodName)) ∈ lw_all := lw_g (lw_at lw_m3 193 rfl) rfl
theorem q814 : (Jvm.Cond.selects "IslandCall" ({ cls := "IslandCall", name := "years", desc := "(I)I" } : Jvm.MethodName) ({ cls := "IslandCall", name := "years", desc := "(I)I" } : Jvm.MethodName)) ∈ lw_all := lw_g (lw_at lw_m3 194 rfl) rfl
theorem q815 : (Jvm.Cond.codeWith ({ cls := "IslandCall", name := "years", desc := "(I)I" } : Jvm.MethodName) prog_1_method_34_code (4 : Nat) (Option.some Jvm.ClassFile.FieldType.int) [((13 : Nat), (53 : Nat), (54 : Nat), (34 : Nat))]) ∈ lw_all := lw_g (lw_at lw_m3 195 rfl) rfl
theorem q816 : (Jvm.Cond.classLink "IslandCall" (216 : Nat) "IslandCall$Loop") ∈ lw_all := lw_g (lw_at lw_m3 196 rfl) rfl
theorem q818 : (Jvm.Cond.methodLink "IslandCall" (218 : Nat) ({ cls := "IslandCall$Loop", name := "<init>", desc := "(I)V" } : Jvm.MethodName)) ∈ lw_all := lw_g (lw_at lw_m3 198 rfl) rfl
theorem q840 : (Jvm.Cond.methodLink "IslandCall" (220 : Nat) ({ cls := "IslandCall$Reader", name := "years", desc := "(LIslandCall$Boat;LIslandCall$Block;)V" } : Jvm.MethodName)) ∈ lw_all := lw_g (lw_at lw_m3 220 rfl) rfl
theorem q911 : (Jvm.Cond.instanceMethod ({ cls := "IslandCall", name := "fault", desc := "(I)I" } : Jvm.MethodName)) ∈ lw_all := lw_g (lw_at lw_m4 51 rfl) rfl
theorem q912 : (Jvm.Cond.selects "IslandCall" ({ cls := "IslandCall", name := "fault", desc := "(I)I" } : Jvm.MethodName) ({ cls := "IslandCall", name := "fault", desc := "(I)I" } : Jvm.MethodName)) ∈ lw_all := lw_g (lw_at lw_m4 52 rfl) rfl
theorem q913 : (Jvm.Cond.code ({ cls := "IslandCall", name := "fault", desc := "(I)I" } : Jvm.MethodName) prog_1_method_35_code (2 : Nat) (Option.some Jvm.ClassFile.FieldType.int)) ∈ lw_all := lw_g (lw_at lw_m4 53 rfl) rfl
theorem q915 : (Jvm.Cond.instanceMethod ({ cls := "IslandCall", name := "told", desc := "(I)I" } : Jvm.MethodName)) ∈ lw_all := lw_g (lw_at lw_m4 55 rfl) rfl
theorem q916 : (Jvm.Cond.selects "IslandCall" ({ cls := "IslandCall", name := "told", desc := "(I)I" } : Jvm.MethodName) ({ cls := "IslandCall", name := "told", desc := "(I)I" } : Jvm.MethodName)) ∈ lw_all := lw_g (lw_at lw_m4 56 rfl) rfl
theorem q917 : (Jvm.Cond.code ({ cls := "IslandCall", name := "told", desc := "(I)I" } : Jvm.MethodName) prog_1_method_36_code (2 : Nat) (Option.some Jvm.ClassFile.FieldType.int)) ∈ lw_all := lw_g (lw_at lw_m4 57 rfl) rfl
theorem q918 : (Jvm.Cond.constantLong "IslandCall" (226 : Nat) (8 : Int64)) ∈ lw_all := lw_g (lw_at lw_m4 58 rfl) rfl
theorem q919 : (Jvm.Cond.methodLink "IslandCall" (160 : Nat) ({ cls := "IslandCall", name := "isIn", desc := "(JJJ)Z" } : Jvm.MethodName)) ∈ lw_all := lw_g (lw_at lw_m4 59 rfl) rfl
theorem q920 : (Jvm.Cond.static ({ cls := "IslandCall", name := "isIn", desc := "(JJJ)Z" } : Jvm.MethodName)) ∈ lw_all := lw_g (lw_at lw_m4 60 rfl) rfl
theorem q921 : (Jvm.Cond.code ({ cls := "IslandCall", name := "isIn", desc := "(JJJ)Z" } : Jvm.MethodName) prog_1_method_20_code (6 : Nat) (Option.some Jvm.ClassFile.FieldType.boolean)) ∈ lw_all := lw_g (lw_at lw_m4 61 rfl) rfl
theorem q922 : (Jvm.Cond.methodLink "IslandCall" (243 : Nat) ({ cls := "IslandCall$Boat", name := "allSat", desc := "()I" } : Jvm.MethodName)) ∈ lw_all := lw_g (lw_at lw_m4 62 rfl) rfl
theorem q927 : (Jvm.Cond.instanceMethod ({ cls := "IslandCall", name := "omen", desc := "(II)I" } : Jvm.MethodName)) ∈ lw_all := lw_g (lw_at lw_m4 67 rfl) rfl
theorem q928 : (Jvm.Cond.selects "IslandCall" ({ cls := "IslandCall", name := "omen", desc := "(II)I" } : Jvm.MethodName) ({ cls := "IslandCall", name := "omen", desc := "(II)I" } : Jvm.MethodName)) ∈ lw_all := lw_g (lw_at lw_m4 68 rfl) rfl
theorem q929 : (Jvm.Cond.code ({ cls := "IslandCall", name := "omen", desc := "(II)I" } : Jvm.MethodName) prog_1_method_38_code (3 : Nat) (Option.some Jvm.ClassFile.FieldType.int)) ∈ lw_all := lw_g (lw_at lw_m4 69 rfl) rfl
theorem q930 : (Jvm.Cond.methodLink "IslandCall" (249 : Nat) ({ cls := "IslandCall", name := "isOmen", desc := "(I)Z" } : Jvm.MethodName)) ∈ lw_all := lw_g (lw_at lw_m4 70 rfl) rfl
theorem q931 : (Jvm.Cond.privateMethod ({ cls := "IslandCall", name := "isOmen", desc := "(I)Z" } : Jvm.MethodName)) ∈ lw_tbl := lw_at lw_m4 71 rfl
theorem q932 : (Jvm.Cond.instanceMethod ({ cls := "IslandCall", name := "isOmen", desc := "(I)Z" } : Jvm.MethodName)) ∈ lw_all := lw_g (lw_at lw_m4 72 rfl) rfl
theorem q933 : (Jvm.Cond.code ({ cls := "IslandCall", name := "isOmen", desc := "(I)Z" } : Jvm.MethodName) prog_1_method_22_code (2 : Nat) (Option.some Jvm.ClassFile.FieldType.boolean)) ∈ lw_all := lw_g (lw_at lw_m4 73 rfl) rfl
theorem q934 : (Jvm.Cond.constantLong "IslandCall" (253 : Nat) (2 : Int64)) ∈ lw_all := lw_g (lw_at lw_m4 74 rfl) rfl
theorem q935 : (Jvm.Cond.methodLink "IslandCall" (258 : Nat) ({ cls := "IslandCall", name := "excusedFrom", desc := "(I)I" } : Jvm.MethodName)) ∈ lw_all := lw_g (lw_at lw_m4 75 rfl) rfl
theorem q936 : (Jvm.Cond.privateMethod ({ cls := "IslandCall", name := "excusedFrom", desc := "(I)I" } : Jvm.MethodName)) ∈ lw_tbl := lw_at lw_m4 76 rfl
theorem q937 : (Jvm.Cond.instanceMethod ({ cls := "IslandCall", name := "excusedFrom", desc := "(I)I" } : Jvm.MethodName)) ∈ lw_all := lw_g (lw_at lw_m4 77 rfl) rfl
theorem q938 : (Jvm.Cond.code ({ cls := "IslandCall", name := "excusedFrom", desc := "(I)I" } : Jvm.MethodName) prog_1_method_37_code (4 : Nat) (Option.some Jvm.ClassFile.FieldType.int)) ∈ lw_all := lw_g (lw_at lw_m4 78 rfl) rfl
theorem q939 : (Jvm.Cond.methodLink "IslandCall" (177 : Nat) ({ cls := "IslandCall", name := "has", desc := "(II)Z" } : Jvm.MethodName)) ∈ lw_all := lw_g (lw_at lw_m4 79 rfl) rfl
theorem q941 : (Jvm.Cond.instanceMethod ({ cls := "IslandCall", name := "person", desc := "(II)I" } : Jvm.MethodName)) ∈ lw_all := lw_g (lw_at lw_m4 81 rfl) rfl
theorem q942 : (Jvm.Cond.selects "IslandCall" ({ cls := "IslandCall", name := "person", desc := "(II)I" } : Jvm.MethodName) ({ cls := "IslandCall", name := "person", desc := "(II)I" } : Jvm.MethodName)) ∈ lw_all := lw_g (lw_at lw_m4 82 rfl) rfl
theorem q943 : (Jvm.Cond.code ({ cls := "IslandCall", name := "person", desc := "(II)I" } : Jvm.MethodName) prog_1_method_40_code (3 : Nat) (Option.some Jvm.ClassFile.FieldType.int)) ∈ lw_all := lw_g (lw_at lw_m4 83 rfl) rfl
theorem q944 : (Jvm.Cond.methodLink "IslandCall" (265 : Nat) ({ cls := "IslandCall", name := "isPerson", desc := "(I)Z" } : Jvm.MethodName)) ∈ lw_all := lw_g (lw_at lw_m4 84 rfl) rfl
theorem q945 : (Jvm.Cond.privateMethod ({ cls := "IslandCall", name := "isPerson", desc := "(I)Z" } : Jvm.MethodName)) ∈ lw_tbl := lw_at lw_m4 85 rfl
theorem q946 : (Jvm.Cond.instanceMethod ({ cls := "IslandCall", name := "isPerson", desc := "(I)Z" } : Jvm.MethodName)) ∈ lw_all := lw_g (lw_at lw_m4 86 rfl) rfl
theorem q947 : (Jvm.Cond.code ({ cls := "IslandCall", name := "isPerson", desc := "(I)Z" } : Jvm.MethodName) prog_1_method_23_code (2 : Nat) (Option.some Jvm.ClassFile.FieldType.boolean)) ∈ lw_all := lw_g (lw_at lw_m4 87 rfl) rfl
theorem q948 : (Jvm.Cond.constantLong "IslandCall" (268 : Nat) (6 : Int64)) ∈ lw_all := lw_g (lw_at lw_m4 88 rfl) rfl
theorem q949 : (Jvm.Cond.methodLink "IslandCall" (273 : Nat) ({ cls := "IslandCall$Boat", name := "need", desc := "(II)I" } : Jvm.MethodName)) ∈ lw_all := lw_g (lw_at lw_m4 89 rfl) rfl
theorem q961 : (Jvm.Cond.methodLink "IslandCall" (277 : Nat) ({ cls := "IslandCall", name := "isAboard", desc := "(I)Z" } : Jvm.MethodName)) ∈ lw_all := lw_g (lw_at lw_m4 101 rfl) rfl
theorem q962 : (Jvm.Cond.privateMethod ({ cls := "IslandCall", name := "isAboard", desc := "(I)Z" } : Jvm.MethodName)) ∈ lw_tbl := lw_at lw_m4 102 rfl
theorem q963 : (Jvm.Cond.instanceMethod ({ cls := "IslandCall", name := "isAboard", desc := "(I)Z" } : Jvm.MethodName)) ∈ lw_all := lw_g (lw_at lw_m4 103 rfl) rfl
theorem q964 : (Jvm.Cond.code ({ cls := "IslandCall", name := "isAboard", desc := "(I)Z" } : Jvm.MethodName) prog_1_method_27_code (2 : Nat) (Option.some Jvm.ClassFile.FieldType.boolean)) ∈ lw_all := lw_g (lw_at lw_m4 104 rfl) rfl
theorem q965 : (Jvm.Cond.methodLink "IslandCall" (262 : Nat) ({ cls := "IslandCall$Boat", name := "sees", desc := "(I)I" } : Jvm.MethodName)) ∈ lw_all := lw_g (lw_at lw_m4 105 rfl) rfl
theorem q973 : (Jvm.Cond.methodLink "IslandCall" (283 : Nat) ({ cls := "IslandCall", name := "seenBy", desc := "(I)I" } : Jvm.MethodName)) ∈ lw_all := lw_g (lw_at lw_m4 113 rfl) rfl
theorem q974 : (Jvm.Cond.privateMethod ({ cls := "IslandCall", name := "seenBy", desc := "(I)I" } : Jvm.MethodName)) ∈ lw_tbl := lw_at lw_m4 114 rfl
theorem q975 : (Jvm.Cond.instanceMethod ({ cls := "IslandCall", name := "seenBy", desc := "(I)I" } : Jvm.MethodName)) ∈ lw_all := lw_g (lw_at lw_m4 115 rfl) rfl
theorem q976 : (Jvm.Cond.code ({ cls := "IslandCall", name := "seenBy", desc := "(I)I" } : Jvm.MethodName) prog_1_method_39_code (4 : Nat) (Option.some Jvm.ClassFile.FieldType.int)) ∈ lw_all := lw_g (lw_at lw_m4 116 rfl) rfl
theorem q978 : (Jvm.Cond.instanceMethod ({ cls := "IslandCall", name := "call", desc := "()I" } : Jvm.MethodName)) ∈ lw_all := lw_g (lw_at lw_m4 118 rfl) rfl
theorem q979 : (Jvm.Cond.selects "IslandCall" ({ cls := "IslandCall", name := "call", desc := "()I" } : Jvm.MethodName) ({ cls := "IslandCall", name := "call", desc := "()I" } : Jvm.MethodName)) ∈ lw_all := lw_g (lw_at lw_m4 119 rfl) rfl
theorem q980 : (Jvm.Cond.code ({ cls := "IslandCall", name := "call", desc := "()I" } : Jvm.MethodName) prog_1_method_41_code (1 : Nat) (Option.some Jvm.ClassFile.FieldType.int)) ∈ lw_all := lw_g (lw_at lw_m4 120 rfl) rfl
theorem q981 : (Jvm.Cond.methodLink "IslandCall" (286 : Nat) ({ cls := "IslandCall$Boat", name := "call", desc := "()I" } : Jvm.MethodName)) ∈ lw_all := lw_g (lw_at lw_m4 121 rfl) rfl
theorem q1013 : (Jvm.Cond.instanceMethod ({ cls := "IslandCall", name := "show", desc := "(IZ)Z" } : Jvm.MethodName)) ∈ lw_all := lw_g (lw_at lw_m4 153 rfl) rfl
theorem q1014 : (Jvm.Cond.selects "IslandCall" ({ cls := "IslandCall", name := "show", desc := "(IZ)Z" } : Jvm.MethodName) ({ cls := "IslandCall", name := "show", desc := "(IZ)Z" } : Jvm.MethodName)) ∈ lw_all := lw_g (lw_at lw_m4 154 rfl) rfl
theorem q1015 : (Jvm.Cond.code ({ cls := "IslandCall", name := "show", desc := "(IZ)Z" } : Jvm.MethodName) prog_1_method_42_code (3 : Nat) (Option.some Jvm.ClassFile.FieldType.boolean)) ∈ lw_all := lw_g (lw_at lw_m4 155 rfl) rfl
theorem q1017 : (Jvm.Cond.instanceMethod ({ cls := "IslandCall", name := "board", desc := "(I)I" } : Jvm.MethodName)) ∈ lw_all := lw_g (lw_at lw_m4 157 rfl) rfl
theorem q1018 : (Jvm.Cond.selects "IslandCall" ({ cls := "IslandCall", name := "board", desc := "(I)I" } : Jvm.MethodName) ({ cls := "IslandCall", name := "board", desc := "(I)I" } : Jvm.MethodName)) ∈ lw_all := lw_g (lw_at lw_m4 158 rfl) rfl
theorem q1019 : (Jvm.Cond.code ({ cls := "IslandCall", name := "board", desc := "(I)I" } : Jvm.MethodName) prog_1_method_43_code (2 : Nat) (Option.some Jvm.ClassFile.FieldType.int)) ∈ lw_all := lw_g (lw_at lw_m4 159 rfl) rfl
theorem q1020 : (Jvm.Cond.methodLink "IslandCall" (289 : Nat) ({ cls := "java/lang/Integer", name := "bitCount", desc := "(I)I" } : Jvm.MethodName)) ∈ lw_all := lw_g (lw_at lw_m4 160 rfl) rfl
theorem q1022 : (Jvm.Cond.instanceMethod ({ cls := "IslandCall", name := "sway", desc := "(II)Z" } : Jvm.MethodName)) ∈ lw_all := lw_g (lw_at lw_m4 162 rfl) rfl
theorem q1023 : (Jvm.Cond.selects "IslandCall" ({ cls := "IslandCall", name := "sway", desc := "(II)Z" } : Jvm.MethodName) ({ cls := "IslandCall", name := "sway", desc := "(II)Z" } : Jvm.MethodName)) ∈ lw_all := lw_g (lw_at lw_m4 163 rfl) rfl
theorem q1024 : (Jvm.Cond.code ({ cls := "IslandCall", name := "sway", desc := "(II)Z" } : Jvm.MethodName) prog_1_method_44_code (3 : Nat) (Option.some Jvm.ClassFile.FieldType.boolean)) ∈ lw_all := lw_g (lw_at lw_m4 164 rfl) rfl
theorem q1025 : (Jvm.Cond.constantLong "IslandCall" (294 : Nat) (9 : Int64)) ∈ lw_all := lw_g (lw_at lw_m4 165 rfl) rfl
theorem q1027 : (Jvm.Cond.instanceMethod ({ cls := "IslandCall", name := "excuse", desc := "(IIZ)Z" } : Jvm.MethodName)) ∈ lw_all := lw_g (lw_at lw_m4 167 rfl) rfl
theorem q1028 : (Jvm.Cond.selects "IslandCall" ({ cls := "IslandCall", name := "excuse", desc := "(IIZ)Z" } : Jvm.MethodName) ({ cls := "IslandCall", name := "excuse", desc := "(IIZ)Z" } : Jvm.MethodName)) ∈ lw_all := lw_g (lw_at lw_m4 168 rfl) rfl
theorem q1029 : (Jvm.Cond.code ({ cls := "IslandCall", name := "excuse", desc := "(IIZ)Z" } : Jvm.MethodName) prog_1_method_45_code (4 : Nat) (Option.some Jvm.ClassFile.FieldType.boolean)) ∈ lw_all := lw_g (lw_at lw_m4 169 rfl) rfl
theorem q1031 : (Jvm.Cond.instanceMethod ({ cls := "IslandCall", name := "see", desc := "(IIZ)Z" } : Jvm.MethodName)) ∈ lw_all := lw_g (lw_at lw_m4 171 rfl) rfl
theorem q1032 : (Jvm.Cond.selects "IslandCall" ({ cls := "IslandCall", name := "see", desc := "(IIZ)Z" } : Jvm.MethodName) ({ cls := "IslandCall", name := "see", desc := "(IIZ)Z" } : Jvm.MethodName)) ∈ lw_all := lw_g (lw_at lw_m4 172 rfl) rfl
theorem q1033 : (Jvm.Cond.code ({ cls := "IslandCall", name := "see", desc := "(IIZ)Z" } : Jvm.MethodName) prog_1_method_46_code (4 : Nat) (Option.some Jvm.ClassFile.FieldType.boolean)) ∈ lw_all := lw_g (lw_at lw_m4 173 rfl) rfl
theorem q1035 : (Jvm.Cond.instanceMethod ({ cls := "IslandCall", name := "paint", desc := "(II)Z" } : Jvm.MethodName)) ∈ lw_all := lw_g (lw_at lw_m4 175 rfl) rfl
theorem q1036 : (Jvm.Cond.selects "IslandCall" ({ cls := "IslandCall", name := "paint", desc := "(II)Z" } : Jvm.MethodName) ({ cls := "IslandCall", name := "paint", desc := "(II)Z" } : Jvm.MethodName)) ∈ lw_all := lw_g (lw_at lw_m4 176 rfl) rfl
theorem q1037 : (Jvm.Cond.code ({ cls := "IslandCall", name := "paint", desc := "(II)Z" } : Jvm.MethodName) prog_1_method_47_code (3 : Nat) (Option.some Jvm.ClassFile.FieldType.boolean)) ∈ lw_all := lw_g (lw_at lw_m4 177 rfl) rfl
theorem q1038 : (Jvm.Cond.constantLong "IslandCall" (299 : Nat) (5 : Int64)) ∈ lw_all := lw_g (lw_at lw_m4 178 rfl) rfl
theorem q1040 : (Jvm.Cond.instanceMethod ({ cls := "IslandCall", name := "come", desc := "(I)I" } : Jvm.MethodName)) ∈ lw_all := lw_g (lw_at lw_m4 180 rfl) rfl
theorem q1041 : (Jvm.Cond.selects "IslandCall" ({ cls := "IslandCall", name := "come", desc := "(I)I" } : Jvm.MethodName) ({ cls := "IslandCall", name := "come", desc := "(I)I" } : Jvm.MethodName)) ∈ lw_all := lw_g (lw_at lw_m4 181 rfl) rfl
theorem q1042 : (Jvm.Cond.code ({ cls := "IslandCall", name := "come", desc := "(I)I" } : Jvm.MethodName) prog_1_method_48_code (2 : Nat) (Option.some Jvm.ClassFile.FieldType.int)) ∈ lw_all := lw_g (lw_at lw_m4 182 rfl) rfl
theorem q1043 : (Jvm.Cond.methodLink "IslandCall" (301 : Nat) ({ cls := "IslandCall$Boat", name := "comes", desc := "(I)V" } : Jvm.MethodName)) ∈ lw_all := lw_g (lw_at lw_m4 183 rfl) rfl
theorem q1045 : (Jvm.Cond.instanceMethod ({ cls := "IslandCall", name := "rule", desc := "(II)Z" } : Jvm.MethodName)) ∈ lw_all := lw_g (lw_at lw_m4 185 rfl) rfl
theorem q1046 : (Jvm.Cond.selects "IslandCall" ({ cls := "IslandCall", name := "rule", desc := "(II)Z" } : Jvm.MethodName) ({ cls := "IslandCall", name := "rule", desc := "(II)Z" } : Jvm.MethodName)) ∈ lw_all := lw_g (lw_at lw_m4 186 rfl) rfl
theorem q1047 : (Jvm.Cond.code ({ cls := "IslandCall", name := "rule", desc := "(II)Z" } : Jvm.MethodName) prog_1_method_49_code (4 : Nat) (Option.some Jvm.ClassFile.FieldType.boolean)) ∈ lw_all := lw_g (lw_at lw_m4 187 rfl) rfl
theorem q1048 : (Jvm.Cond.constantLong "IslandCall" (304 : Nat) (3 : Int64)) ∈ lw_all := lw_g (lw_at lw_m4 188 rfl) rfl
theorem q1049 : (Jvm.Cond.constantLong "IslandCall" (306 : Nat) (16 : Int64)) ∈ lw_all := lw_g (lw_at lw_m4 189 rfl) rfl
theorem q1051 : (Jvm.Cond.instanceMethod ({ cls := "IslandCall", name := "need", desc := "(II)I" } : Jvm.MethodName)) ∈ lw_all := lw_g (lw_at lw_m4 191 rfl) rfl
theorem q1052 : (Jvm.Cond.selects "IslandCall" ({ cls := "IslandCall", name := "need", desc := "(II)I" } : Jvm.MethodName) ({ cls := "IslandCall", name := "need", desc := "(II)I" } : Jvm.MethodName)) ∈ lw_all := lw_g (lw_at lw_m4 192 rfl) rfl
theorem q1053 : (Jvm.Cond.code ({ cls := "IslandCall", name := "need", desc := "(II)I" } : Jvm.MethodName) prog_1_method_50_code (3 : Nat) (Option.some Jvm.ClassFile.FieldType.int)) ∈ lw_all := lw_g (lw_at lw_m4 193 rfl) rfl
theorem q1054 : (Jvm.Cond.methodLink "IslandCall" (308 : Nat) ({ cls := "IslandCall", name := "areOmens", desc := "(J)Z" } : Jvm.MethodName)) ∈ lw_all := lw_g (lw_at lw_m4 194 rfl) rfl
theorem q1055 : (Jvm.Cond.privateMethod ({ cls := "IslandCall", name := "areOmens", desc := "(J)Z" } : Jvm.MethodName)) ∈ lw_tbl := lw_at lw_m4 195 rfl
theorem q1056 : (Jvm.Cond.instanceMethod ({ cls := "IslandCall", name := "areOmens", desc := "(J)Z" } : Jvm.MethodName)) ∈ lw_all := lw_g (lw_at lw_m4 196 rfl) rfl
theorem q1057 : (Jvm.Cond.code ({ cls := "IslandCall", name := "areOmens", desc := "(J)Z" } : Jvm.MethodName) prog_1_method_25_code (3 : Nat) (Option.some Jvm.ClassFile.FieldType.boolean)) ∈ lw_all := lw_g (lw_at lw_m4 197 rfl) rfl
theorem q1058 : (Jvm.Cond.methodLink "IslandCall" (167 : Nat) ({ cls := "IslandCall", name := "allOmens", desc := "()I" } : Jvm.MethodName)) ∈ lw_all := lw_g (lw_at lw_m4 198 rfl) rfl
theorem q1059 : (Jvm.Cond.privateMethod ({ cls := "IslandCall", name := "allOmens", desc := "()I" } : Jvm.MethodName)) ∈ lw_tbl := lw_at lw_m4 199 rfl
theorem q1060 : (Jvm.Cond.instanceMethod ({ cls := "IslandCall", name := "allOmens", desc := "()I" } : Jvm.MethodName)) ∈ lw_all := lw_g (lw_at lw_m4 200 rfl) rfl
theorem q1061 : (Jvm.Cond.code ({ cls := "IslandCall", name := "allOmens", desc := "()I" } : Jvm.MethodName) prog_1_method_24_code (1 : Nat) (Option.some Jvm.ClassFile.FieldType.int)) ∈ lw_all := lw_g (lw_at lw_m4 201 rfl) rfl
theorem q1063 : (Jvm.Cond.instanceMethod ({ cls := "IslandCall", name := "roundOf", desc := "(II)I" } : Jvm.MethodName)) ∈ lw_all := lw_g (lw_at lw_m4 203 rfl) rfl
theorem q1064 : (Jvm.Cond.selects "IslandCall" ({ cls := "IslandCall", name := "roundOf", desc := "(II)I" } : Jvm.MethodName) ({ cls := "IslandCall", name := "roundOf", desc := "(II)I" } : Jvm.MethodName)) ∈ lw_all := lw_g (lw_at lw_m4 204 rfl) rfl
theorem q1065 : (Jvm.Cond.code ({ cls := "IslandCall", name := "roundOf", desc := "(II)I" } : Jvm.MethodName) prog_1_method_51_code (5 : Nat) (Option.some Jvm.ClassFile.FieldType.int)) ∈ lw_all := lw_g (lw_at lw_m4 205 rfl) rfl
theorem q1066 : (Jvm.Cond.methodLink "IslandCall" (312 : Nat) ({ cls := "IslandCall$Boat", name := "round", desc := "(II)I" } : Jvm.MethodName)) ∈ lw_all := lw_g (lw_at lw_m4 206 rfl) rfl
theorem q1067 : (Jvm.Cond.methodLink "IslandCall" (315 : Nat) ({ cls := "IslandCall", name := "answer", desc := "(I)I" } : Jvm.MethodName)) ∈ lw_all := lw_g (lw_at lw_m4 207 rfl) rfl
theorem q1068 : (Jvm.Cond.privateMethod ({ cls := "IslandCall", name := "answer", desc := "(I)I" } : Jvm.MethodName)) ∈ lw_tbl := lw_at lw_m4 208 rfl
theorem q1069 : (Jvm.Cond.instanceMethod ({ cls := "IslandCall", name := "answer", desc := "(I)I" } : Jvm.MethodName)) ∈ lw_all := lw_g (lw_at lw_m4 209 rfl) rfl
theorem q1070 : (Jvm.Cond.code ({ cls := "IslandCall", name := "answer", desc := "(I)I" } : Jvm.MethodName) prog_1_method_28_code (2 : Nat) (Option.some Jvm.ClassFile.FieldType.int)) ∈ lw_all := lw_g (lw_at lw_m4 210 rfl) rfl
theorem q1072 : (Jvm.Cond.instanceMethod ({ cls := "IslandCall", name := "outBy", desc := "(I)I" } : Jvm.MethodName)) ∈ lw_all := lw_g (lw_at lw_m4 212 rfl) rfl
theorem q1073 : (Jvm.Cond.selects "IslandCall" ({ cls := "IslandCall", name := "outBy", desc := "(I)I" } : Jvm.MethodName) ({ cls := "IslandCall", name := "outBy", desc := "(I)I" } : Jvm.MethodName)) ∈ lw_all := lw_g (lw_at lw_m4 213 rfl) rfl
theorem q1074 : (Jvm.Cond.code ({ cls := "IslandCall", name := "outBy", desc := "(I)I" } : Jvm.MethodName) prog_1_method_52_code (2 : Nat) (Option.some Jvm.ClassFile.FieldType.int)) ∈ lw_all := lw_g (lw_at lw_m4 214 rfl) rfl
theorem q1075 : (Jvm.Cond.methodLink "IslandCall" (318 : Nat) ({ cls := "IslandCall$Boat", name := "outBy", desc := "(I)I" } : Jvm.MethodName)) ∈ lw_all := lw_g (lw_at lw_m4 215 rfl) rfl
theorem q1077 : (Jvm.Cond.instanceMethod ({ cls := "IslandCall", name := "restBy", desc := "(I)I" } : Jvm.MethodName)) ∈ lw_all := lw_g (lw_at lw_m4 217 rfl) rfl
theorem q1078 : (Jvm.Cond.selects "IslandCall" ({ cls := "IslandCall", name := "restBy", desc := "(I)I" } : Jvm.MethodName) ({ cls := "IslandCall", name := "restBy", desc := "(I)I" } : Jvm.MethodName)) ∈ lw_all := lw_g (lw_at lw_m4 218 rfl) rfl
theorem q1079 : (Jvm.Cond.code ({ cls := "IslandCall", name := "restBy", desc := "(I)I" } : Jvm.MethodName) prog_1_method_53_code (2 : Nat) (Option.some Jvm.ClassFile.FieldType.int)) ∈ lw_all := lw_g (lw_at lw_m4 219 rfl) rfl
theorem q1080 : (Jvm.Cond.methodLink "IslandCall" (321 : Nat) ({ cls := "IslandCall$Boat", name := "rest", desc := "(II)I" } : Jvm.MethodName)) ∈ lw_all := lw_g (lw_at lw_m4 220 rfl) rfl
theorem q1085 : (Jvm.Cond.instanceMethod ({ cls := "IslandCall", name := "rounds", desc := "(I)I" } : Jvm.MethodName)) ∈ lw_all := lw_g (lw_at lw_m4 225 rfl) rfl
theorem q1086 : (Jvm.Cond.selects "IslandCall" ({ cls := "IslandCall", name := "rounds", desc := "(I)I" } : Jvm.MethodName) ({ cls := "IslandCall", name := "rounds", desc := "(I)I" } : Jvm.MethodName)) ∈ lw_all := lw_g (lw_at lw_m4 226 rfl) rfl
theorem q1087 : (Jvm.Cond.code ({ cls := "IslandCall", name := "rounds", desc := "(I)I" } : Jvm.MethodName) prog_1_method_54_code (2 : Nat) (Option.some Jvm.ClassFile.FieldType.int)) ∈ lw_all := lw_g (lw_at lw_m4 227 rfl) rfl
theorem q1089 : (Jvm.Cond.instanceMethod ({ cls := "IslandCall", name := "atRest", desc := "(II)I" } : Jvm.MethodName)) ∈ lw_all := lw_g (lw_at lw_m4 229 rfl) rfl
theorem q1090 : (Jvm.Cond.selects "IslandCall" ({ cls := "IslandCall", name := "atRest", desc := "(II)I" } : Jvm.MethodName) ({ cls := "IslandCall", name := "atRest", desc := "(II)I" } : Jvm.MethodName)) ∈ lw_all := lw_g (lw_at lw_m4 230 rfl) rfl
theorem q1091 : (Jvm.Cond.code ({ cls := "IslandCall", name := "atRest", desc := "(II)I" } : Jvm.MethodName) prog_1_method_55_code (3 : Nat) (Option.some Jvm.ClassFile.FieldType.int)) ∈ lw_all := lw_g (lw_at lw_m4 231 rfl) rfl
theorem q1092 : (Jvm.Cond.methodLink "IslandCall" (327 : Nat) ({ cls := "IslandCall", name := "arePeople", desc := "(J)Z" } : Jvm.MethodName)) ∈ lw_all := lw_g (lw_at lw_m4 232 rfl) rfl
theorem q1093 : (Jvm.Cond.privateMethod ({ cls := "IslandCall", name := "arePeople", desc := "(J)Z" } : Jvm.MethodName)) ∈ lw_tbl := lw_at lw_m4 233 rfl
theorem q1094 : (Jvm.Cond.instanceMethod ({ cls := "IslandCall", name := "arePeople", desc := "(J)Z" } : Jvm.MethodName)) ∈ lw_all := lw_g (lw_at lw_m4 234 rfl) rfl
theorem q1095 : (Jvm.Cond.code ({ cls := "IslandCall", name := "arePeople", desc := "(J)Z" } : Jvm.MethodName) prog_1_method_26_code (3 : Nat) (Option.some Jvm.ClassFile.FieldType.boolean)) ∈ lw_all := lw_g (lw_at lw_m4 235 rfl) rfl
theorem q1096 : (Jvm.Cond.methodLink "IslandCall" (171 : Nat) ({ cls := "IslandCall$Boat", name := "all", desc := "()I" } : Jvm.MethodName)) ∈ lw_all := lw_g (lw_at lw_m4 236 rfl) rfl
theorem q1097 : (Jvm.Cond.methodLink "IslandCall" (330 : Nat) ({ cls := "IslandCall$Boat", name := "atRest", desc := "(II)Z" } : Jvm.MethodName)) ∈ lw_all := lw_g (lw_at lw_m4 237 rfl) rfl
theorem q1102 : (Jvm.Cond.instanceMethod ({ cls := "IslandCall", name := "rests", desc := "(I)I" } : Jvm.MethodName)) ∈ lw_all := lw_g (lw_at lw_m5 2 rfl) rfl
theorem q1103 : (Jvm.Cond.selects "IslandCall" ({ cls := "IslandCall", name := "rests", desc := "(I)I" } : Jvm.MethodName) ({ cls := "IslandCall", name := "rests", desc := "(I)I" } : Jvm.MethodName)) ∈ lw_all := lw_g (lw_at lw_m5 3 rfl) rfl
theorem q1104 : (Jvm.Cond.code ({ cls := "IslandCall", name := "rests", desc := "(I)I" } : Jvm.MethodName) prog_1_method_56_code (4 : Nat) (Option.some Jvm.ClassFile.FieldType.int)) ∈ lw_all := lw_g (lw_at lw_m5 4 rfl) rfl
theorem q1106 : (Jvm.Cond.instanceMethod ({ cls := "IslandCall", name := "greatest", desc := "(I)I" } : Jvm.MethodName)) ∈ lw_all := lw_g (lw_at lw_m5 6 rfl) rfl
theorem q1107 : (Jvm.Cond.selects "IslandCall" ({ cls := "IslandCall", name := "greatest", desc := "(I)I" } : Jvm.MethodName) ({ cls := "IslandCall", name := "greatest", desc := "(I)I" } : Jvm.MethodName)) ∈ lw_all := lw_g (lw_at lw_m5 7 rfl) rfl
theorem q1108 : (Jvm.Cond.code ({ cls := "IslandCall", name := "greatest", desc := "(I)I" } : Jvm.MethodName) prog_1_method_57_code (6 : Nat) (Option.some Jvm.ClassFile.FieldType.int)) ∈ lw_all := lw_g (lw_at lw_m5 8 rfl) rfl
theorem q1109 : (Jvm.Cond.methodLink "IslandCall" (333 : Nat) ({ cls := "IslandCall$Boat", name := "dares", desc := "(III)Z" } : Jvm.MethodName)) ∈ lw_all := lw_g (lw_at lw_m5 9 rfl) rfl
theorem q1111 : (Jvm.Cond.instanceMethod ({ cls := "IslandCall", name := "seeds", desc := "(I)I" } : Jvm.MethodName)) ∈ lw_all := lw_g (lw_at lw_m5 11 rfl) rfl
theorem q1112 : (Jvm.Cond.selects "IslandCall" ({ cls := "IslandCall", name := "seeds", desc := "(I)I" } : Jvm.MethodName) ({ cls := "IslandCall", name := "seeds", desc := "(I)I" } : Jvm.MethodName)) ∈ lw_all := lw_g (lw_at lw_m5 12 rfl) rfl
theorem q1113 : (Jvm.Cond.code ({ cls := "IslandCall", name := "seeds", desc := "(I)I" } : Jvm.MethodName) prog_1_method_59_code (2 : Nat) (Option.some Jvm.ClassFile.FieldType.int)) ∈ lw_all := lw_g (lw_at lw_m5 13 rfl) rfl
theorem q1114 : (Jvm.Cond.methodLink "IslandCall" (337 : Nat) ({ cls := "IslandCall", name := "seedsOf", desc := "(I)I" } : Jvm.MethodName)) ∈ lw_all := lw_g (lw_at lw_m5 14 rfl) rfl
theorem q1115 : (Jvm.Cond.privateMethod ({ cls := "IslandCall", name := "seedsOf", desc := "(I)I" } : Jvm.MethodName)) ∈ lw_tbl := lw_at lw_m5 15 rfl
theorem q1116 : (Jvm.Cond.instanceMethod ({ cls := "IslandCall", name := "seedsOf", desc := "(I)I" } : Jvm.MethodName)) ∈ lw_all := lw_g (lw_at lw_m5 16 rfl) rfl
theorem q1117 : (Jvm.Cond.code ({ cls := "IslandCall", name := "seedsOf", desc := "(I)I" } : Jvm.MethodName) prog_1_method_58_code (5 : Nat) (Option.some Jvm.ClassFile.FieldType.int)) ∈ lw_all := lw_g (lw_at lw_m5 17 rfl) rfl
theorem q1119 : (Jvm.Cond.instanceMethod ({ cls := "IslandCall", name := "seedSet", desc := "(I)I" } : Jvm.MethodName)) ∈ lw_all := lw_g (lw_at lw_m5 19 rfl) rfl
theorem q1120 : (Jvm.Cond.selects "IslandCall" ({ cls := "IslandCall", name := "seedSet", desc := "(I)I" } : Jvm.MethodName) ({ cls := "IslandCall", name := "seedSet", desc := "(I)I" } : Jvm.MethodName)) ∈ lw_all := lw_g (lw_at lw_m5 20 rfl) rfl
theorem q1121 : (Jvm.Cond.code ({ cls := "IslandCall", name := "seedSet", desc := "(I)I" } : Jvm.MethodName) prog_1_method_60_code (2 : Nat) (Option.some Jvm.ClassFile.FieldType.int)) ∈ lw_all := lw_g (lw_at lw_m5 21 rfl) rfl
theorem q1123 : (Jvm.Cond.instanceMethod ({ cls := "IslandCall", name := "weight", desc := "(II)I" } : Jvm.MethodName)) ∈ lw_all := lw_g (lw_at lw_m5 23 rfl) rfl
theorem q1124 : (Jvm.Cond.selects "IslandCall" ({ cls := "IslandCall", name := "weight", desc := "(II)I" } : Jvm.MethodName) ({ cls := "IslandCall", name := "weight", desc := "(II)I" } : Jvm.MethodName)) ∈ lw_all := lw_g (lw_at lw_m5 24 rfl) rfl
theorem q1125 : (Jvm.Cond.code ({ cls := "IslandCall", name := "weight", desc := "(II)I" } : Jvm.MethodName) prog_1_method_62_code (3 : Nat) (Option.some Jvm.ClassFile.FieldType.int)) ∈ lw_all := lw_g (lw_at lw_m5 25 rfl) rfl
theorem q1126 : (Jvm.Cond.methodLink "IslandCall" (340 : Nat) ({ cls := "IslandCall", name := "weightOf", desc := "(II)I" } : Jvm.MethodName)) ∈ lw_all := lw_g (lw_at lw_m5 26 rfl) rfl
theorem q1127 : (Jvm.Cond.privateMethod ({ cls := "IslandCall", name := "weightOf", desc := "(II)I" } : Jvm.MethodName)) ∈ lw_tbl := lw_at lw_m5 27 rfl
theorem q1128 : (Jvm.Cond.instanceMethod ({ cls := "IslandCall", name := "weightOf", desc := "(II)I" } : Jvm.MethodName)) ∈ lw_all := lw_g (lw_at lw_m5 28 rfl) rfl
theorem q1129 : (Jvm.Cond.code ({ cls := "IslandCall", name := "weightOf", desc := "(II)I" } : Jvm.MethodName) prog_1_method_61_code (6 : Nat) (Option.some Jvm.ClassFile.FieldType.int)) ∈ lw_all := lw_g (lw_at lw_m5 29 rfl) rfl
theorem q1131 : (Jvm.Cond.instanceMethod ({ cls := "IslandCall", name := "keystone", desc := "(I)I" } : Jvm.MethodName)) ∈ lw_all := lw_g (lw_at lw_m5 31 rfl) rfl
theorem q1132 : (Jvm.Cond.selects "IslandCall" ({ cls := "IslandCall", name := "keystone", desc := "(I)I" } : Jvm.MethodName) ({ cls := "IslandCall", name := "keystone", desc := "(I)I" } : Jvm.MethodName)) ∈ lw_all := lw_g (lw_at lw_m5 32 rfl) rfl
theorem q1133 : (Jvm.Cond.code ({ cls := "IslandCall", name := "keystone", desc := "(I)I" } : Jvm.MethodName) prog_1_method_63_code (4 : Nat) (Option.some Jvm.ClassFile.FieldType.int)) ∈ lw_all := lw_g (lw_at lw_m5 33 rfl) rfl
theorem q1135 : (Jvm.Cond.instanceMethod ({ cls := "IslandCall", name := "lures", desc := "(I)I" } : Jvm.MethodName)) ∈ lw_all := lw_g (lw_at lw_m5 35 rfl) rfl
theorem q1136 : (Jvm.Cond.selects "IslandCall" ({ cls := "IslandCall", name := "lures", desc := "(I)I" } : Jvm.MethodName) ({ cls := "IslandCall", name := "lures", desc := "(I)I" } : Jvm.MethodName)) ∈ lw_all := lw_g (lw_at lw_m5 36 rfl) rfl
theorem q1137 : (Jvm.Cond.code ({ cls := "IslandCall", name := "lures", desc := "(I)I" } : Jvm.MethodName) prog_1_method_66_code (3 : Nat) (Option.some Jvm.ClassFile.FieldType.int)) ∈ lw_all := lw_g (lw_at lw_m5 37 rfl) rfl
theorem q1138 : (Jvm.Cond.methodLink "IslandCall" (343 : Nat) ({ cls := "IslandCall", name := "whyNotAboard", desc := "(I)I" } : Jvm.MethodName)) ∈ lw_all := lw_g (lw_at lw_m5 38 rfl) rfl
theorem q1139 : (Jvm.Cond.privateMethod ({ cls := "IslandCall", name := "whyNotAboard", desc := "(I)I" } : Jvm.MethodName)) ∈ lw_tbl := lw_at lw_m5 39 rfl
theorem q1140 : (Jvm.Cond.instanceMethod ({ cls := "IslandCall", name := "whyNotAboard", desc := "(I)I" } : Jvm.MethodName)) ∈ lw_all := lw_g (lw_at lw_m5 40 rfl) rfl
theorem q1141 : (Jvm.Cond.code ({ cls := "IslandCall", name := "whyNotAboard", desc := "(I)I" } : Jvm.MethodName) prog_1_method_65_code (2 : Nat) (Option.some Jvm.ClassFile.FieldType.int)) ∈ lw_all := lw_g (lw_at lw_m5 41 rfl) rfl
theorem q1142 : (Jvm.Cond.methodLink "IslandCall" (346 : Nat) ({ cls := "IslandCall", name := "luring", desc := "(I)I" } : Jvm.MethodName)) ∈ lw_all := lw_g (lw_at lw_m5 42 rfl) rfl
theorem q1143 : (Jvm.Cond.privateMethod ({ cls := "IslandCall", name := "luring", desc := "(I)I" } : Jvm.MethodName)) ∈ lw_tbl := lw_at lw_m5 43 rfl
theorem q1144 : (Jvm.Cond.instanceMethod ({ cls := "IslandCall", name := "luring", desc := "(I)I" } : Jvm.MethodName)) ∈ lw_all := lw_g (lw_at lw_m5 44 rfl) rfl
theorem q1145 : (Jvm.Cond.code ({ cls := "IslandCall", name := "luring", desc := "(I)I" } : Jvm.MethodName) prog_1_method_64_code (4 : Nat) (Option.some Jvm.ClassFile.FieldType.int)) ∈ lw_all := lw_g (lw_at lw_m5 45 rfl) rfl
theorem q1147 : (Jvm.Cond.instanceMethod ({ cls := "IslandCall", name := "lureSet", desc := "(I)I" } : Jvm.MethodName)) ∈ lw_all := lw_g (lw_at lw_m5 47 rfl) rfl
theorem q1148 : (Jvm.Cond.selects "IslandCall" ({ cls := "IslandCall", name := "lureSet", desc := "(I)I" } : Jvm.MethodName) ({ cls := "IslandCall", name := "lureSet", desc := "(I)I" } : Jvm.MethodName)) ∈ lw_all := lw_g (lw_at lw_m5 48 rfl) rfl
theorem q1149 : (Jvm.Cond.code ({ cls := "IslandCall", name := "lureSet", desc := "(I)I" } : Jvm.MethodName) prog_1_method_67_code (2 : Nat) (Option.some Jvm.ClassFile.FieldType.int)) ∈ lw_all := lw_g (lw_at lw_m5 49 rfl) rfl
theorem q1151 : (Jvm.Cond.instanceMethod ({ cls := "IslandCall", name := "best", desc := "()I" } : Jvm.MethodName)) ∈ lw_all := lw_g (lw_at lw_m5 51 rfl) rfl
theorem q1152 : (Jvm.Cond.selects "IslandCall" ({ cls := "IslandCall", name := "best", desc := "()I" } : Jvm.MethodName) ({ cls := "IslandCall", name := "best", desc := "()I" } : Jvm.MethodName)) ∈ lw_all := lw_g (lw_at lw_m5 52 rfl) rfl
theorem q1153 : (Jvm.Cond.code ({ cls := "IslandCall", name := "best", desc := "()I" } : Jvm.MethodName) prog_1_method_69_code (1 : Nat) (Option.some Jvm.ClassFile.FieldType.int)) ∈ lw_all := lw_g (lw_at lw_m5 53 rfl) rfl
theorem q1154 : (Jvm.Cond.methodLink "IslandCall" (349 : Nat) ({ cls := "IslandCall", name := "bestOmens", desc := "()I" } : Jvm.MethodName)) ∈ lw_all := lw_g (lw_at lw_m5 54 rfl) rfl
theorem q1155 : (Jvm.Cond.privateMethod ({ cls := "IslandCall", name := "bestOmens", desc := "()I" } : Jvm.MethodName)) ∈ lw_tbl := lw_at lw_m5 55 rfl
theorem q1156 : (Jvm.Cond.instanceMethod ({ cls := "IslandCall", name := "bestOmens", desc := "()I" } : Jvm.MethodName)) ∈ lw_all := lw_g (lw_at lw_m5 56 rfl) rfl
theorem q1157 : (Jvm.Cond.code ({ cls := "IslandCall", name := "bestOmens", desc := "()I" } : Jvm.MethodName) prog_1_method_68_code (4 : Nat) (Option.some Jvm.ClassFile.FieldType.int)) ∈ lw_all := lw_g (lw_at lw_m5 57 rfl) rfl
theorem q1159 : (Jvm.Cond.instanceMethod ({ cls := "IslandCall", name := "bestOut", desc := "()I" } : Jvm.MethodName)) ∈ lw_all := lw_g (lw_at lw_m5 59 rfl) rfl
theorem q1160 : (Jvm.Cond.selects "IslandCall" ({ cls := "IslandCall", name := "bestOut", desc := "()I" } : Jvm.MethodName) ({ cls := "IslandCall", name := "bestOut", desc := "()I" } : Jvm.MethodName)) ∈ lw_all := lw_g (lw_at lw_m5 60 rfl) rfl
theorem q1161 : (Jvm.Cond.code ({ cls := "IslandCall", name := "bestOut", desc := "()I" } : Jvm.MethodName) prog_1_method_70_code (1 : Nat) (Option.some Jvm.ClassFile.FieldType.int)) ∈ lw_all := lw_g (lw_at lw_m5 61 rfl) rfl
theorem q1163 : (Jvm.Cond.instanceMethod ({ cls := "IslandCall", name := "never", desc := "()I" } : Jvm.MethodName)) ∈ lw_all := lw_g (lw_at lw_m5 63 rfl) rfl
theorem q1164 : (Jvm.Cond.selects "IslandCall" ({ cls := "IslandCall", name := "never", desc := "()I" } : Jvm.MethodName) ({ cls := "IslandCall", name := "never", desc := "()I" } : Jvm.MethodName)) ∈ lw_all := lw_g (lw_at lw_m5 64 rfl) rfl
theorem q1165 : (Jvm.Cond.code ({ cls := "IslandCall", name := "never", desc := "()I" } : Jvm.MethodName) prog_1_method_71_code (3 : Nat) (Option.some Jvm.ClassFile.FieldType.int)) ∈ lw_all := lw_g (lw_at lw_m5 65 rfl) rfl
theorem q1167 : (Jvm.Cond.instanceMethod ({ cls := "IslandCall", name := "outIn", desc := "(I)I" } : Jvm.MethodName)) ∈ lw_all := lw_g (lw_at lw_m5 67 rfl) rfl
theorem q1168 : (Jvm.Cond.selects "IslandCall" ({ cls := "IslandCall", name := "outIn", desc := "(I)I" } : Jvm.MethodName) ({ cls := "IslandCall", name := "outIn", desc := "(I)I" } : Jvm.MethodName)) ∈ lw_all := lw_g (lw_at lw_m5 68 rfl) rfl
theorem q1169 : (Jvm.Cond.code ({ cls := "IslandCall", name := "outIn", desc := "(I)I" } : Jvm.MethodName) prog_1_method_74_code (2 : Nat) (Option.some Jvm.ClassFile.FieldType.int)) ∈ lw_all := lw_g (lw_at lw_m5 69 rfl) rfl
theorem q1170 : (Jvm.Cond.methodLink "IslandCall" (354 : Nat) ({ cls := "IslandCall", name := "isAhead", desc := "(I)Z" } : Jvm.MethodName)) ∈ lw_all := lw_g (lw_at lw_m5 70 rfl) rfl
theorem q1171 : (Jvm.Cond.static ({ cls := "IslandCall", name := "isAhead", desc := "(I)Z" } : Jvm.MethodName)) ∈ lw_all := lw_g (lw_at lw_m5 71 rfl) rfl
theorem q1172 : (Jvm.Cond.code ({ cls := "IslandCall", name := "isAhead", desc := "(I)Z" } : Jvm.MethodName) prog_1_method_73_code (1 : Nat) (Option.some Jvm.ClassFile.FieldType.boolean)) ∈ lw_all := lw_g (lw_at lw_m5 72 rfl) rfl
theorem q1173 : (Jvm.Cond.constantLong "IslandCall" (352 : Nat) (60 : Int64)) ∈ lw_all := lw_g (lw_at lw_m5 73 rfl) rfl
theorem q1174 : (Jvm.Cond.methodLink "IslandCall" (357 : Nat) ({ cls := "IslandCall", name := "goesOn", desc := "(I)LIslandCall$Boat;" } : Jvm.MethodName)) ∈ lw_all := lw_g (lw_at lw_m5 74 rfl) rfl
theorem q1175 : (Jvm.Cond.privateMethod ({ cls := "IslandCall", name := "goesOn", desc := "(I)LIslandCall$Boat;" } : Jvm.MethodName)) ∈ lw_tbl := lw_at lw_m5 75 rfl
theorem q1176 : (Jvm.Cond.instanceMethod ({ cls := "IslandCall", name := "goesOn", desc := "(I)LIslandCall$Boat;" } : Jvm.MethodName)) ∈ lw_all := lw_g (lw_at lw_m5 76 rfl) rfl
theorem q1177 : (Jvm.Cond.code ({ cls := "IslandCall", name := "goesOn", desc := "(I)LIslandCall$Boat;" } : Jvm.MethodName) prog_1_method_72_code (3 : Nat) (Option.some (Jvm.ClassFile.FieldType.object "IslandCall$Boat"))) ∈ lw_all := lw_g (lw_at lw_m5 77 rfl) rfl
theorem q1178 : (Jvm.Cond.methodLink "IslandCall" (361 : Nat) ({ cls := "IslandCall$Boat", name := "out", desc := "()I" } : Jvm.MethodName)) ∈ lw_all := lw_g (lw_at lw_m5 78 rfl) rfl
theorem q1183 : (Jvm.Cond.instanceMethod ({ cls := "IslandCall", name := "outAt", desc := "(I)I" } : Jvm.MethodName)) ∈ lw_all := lw_g (lw_at lw_m5 83 rfl) rfl
theorem q1184 : (Jvm.Cond.selects "IslandCall" ({ cls := "IslandCall", name := "outAt", desc := "(I)I" } : Jvm.MethodName) ({ cls := "IslandCall", name := "outAt", desc := "(I)I" } : Jvm.MethodName)) ∈ lw_all := lw_g (lw_at lw_m5 84 rfl) rfl
theorem q1185 : (Jvm.Cond.code ({ cls := "IslandCall", name := "outAt", desc := "(I)I" } : Jvm.MethodName) prog_1_method_75_code (3 : Nat) (Option.some Jvm.ClassFile.FieldType.int)) ∈ lw_all := lw_g (lw_at lw_m5 85 rfl) rfl
theorem q1187 : (Jvm.Cond.instanceMethod ({ cls := "IslandCall", name := "holdIn", desc := "(II)I" } : Jvm.MethodName)) ∈ lw_all := lw_g (lw_at lw_m5 87 rfl) rfl
theorem q1188 : (Jvm.Cond.selects "IslandCall" ({ cls := "IslandCall", name := "holdIn", desc := "(II)I" } : Jvm.MethodName) ({ cls := "IslandCall", name := "holdIn", desc := "(II)I" } : Jvm.MethodName)) ∈ lw_all := lw_g (lw_at lw_m5 88 rfl) rfl
theorem q1189 : (Jvm.Cond.code ({ cls := "IslandCall", name := "holdIn", desc := "(II)I" } : Jvm.MethodName) prog_1_method_76_code (3 : Nat) (Option.some Jvm.ClassFile.FieldType.int)) ∈ lw_all := lw_g (lw_at lw_m5 89 rfl) rfl
theorem q1191 : (Jvm.Cond.instanceMethod ({ cls := "IslandCall", name := "fits", desc := "(III)I" } : Jvm.MethodName)) ∈ lw_all := lw_g (lw_at lw_m5 91 rfl) rfl
theorem q1192 : (Jvm.Cond.selects "IslandCall" ({ cls := "IslandCall", name := "fits", desc := "(III)I" } : Jvm.MethodName) ({ cls := "IslandCall", name := "fits", desc := "(III)I" } : Jvm.MethodName)) ∈ lw_all := lw_g (lw_at lw_m5 92 rfl) rfl
theorem q1193 : (Jvm.Cond.codeWith ({ cls := "IslandCall", name := "fits", desc := "(III)I" } : Jvm.MethodName) prog_1_method_78_code (5 : Nat) (Option.some Jvm.ClassFile.FieldType.int) [((5 : Nat), (15 : Nat), (16 : Nat), (41 : Nat))]) ∈ lw_all := lw_g (lw_at lw_m5 93 rfl) rfl
theorem q1194 : (Jvm.Cond.methodLink "IslandCall" (373 : Nat) ({ cls := "IslandCall", name := "fitting", desc := "(III)I" } : Jvm.MethodName)) ∈ lw_all := lw_g (lw_at lw_m5 94 rfl) rfl
theorem q1195 : (Jvm.Cond.privateMethod ({ cls := "IslandCall", name := "fitting", desc := "(III)I" } : Jvm.MethodName)) ∈ lw_tbl := lw_at lw_m5 95 rfl
theorem q1196 : (Jvm.Cond.instanceMethod ({ cls := "IslandCall", name := "fitting", desc := "(III)I" } : Jvm.MethodName)) ∈ lw_all := lw_g (lw_at lw_m5 96 rfl) rfl
theorem q1197 : (Jvm.Cond.code ({ cls := "IslandCall", name := "fitting", desc := "(III)I" } : Jvm.MethodName) prog_1_method_77_code (11 : Nat) (Option.some Jvm.ClassFile.FieldType.int)) ∈ lw_all := lw_g (lw_at lw_m5 97 rfl) rfl
theorem q1198 : (Jvm.Cond.constantLong "IslandCall" (364 : Nat) (20 : Int64)) ∈ lw_all := lw_g (lw_at lw_m5 98 rfl) rfl
theorem q1199 : (Jvm.Cond.methodLink "IslandCall" (366 : Nat) ({ cls := "IslandCall", name := "sizeOf", desc := "(Ljava/lang/Object;)I" } : Jvm.MethodName)) ∈ lw_all := lw_g (lw_at lw_m5 99 rfl) rfl
theorem q1200 : (Jvm.Cond.static ({ cls := "IslandCall", name := "sizeOf", desc := "(Ljava/lang/Object;)I" } : Jvm.MethodName)) ∈ lw_all := lw_g (lw_at lw_m5 100 rfl) rfl
theorem q1201 : (Jvm.Cond.code ({ cls := "IslandCall", name := "sizeOf", desc := "(Ljava/lang/Object;)I" } : Jvm.MethodName) prog_1_method_3_code (2 : Nat) (Option.some Jvm.ClassFile.FieldType.int)) ∈ lw_all := lw_g (lw_at lw_m5 101 rfl) rfl
theorem q1202 : (Jvm.Cond.methodLinkNest "IslandCall" (369 : Nat) ({ cls := "IslandCall$Boat", name := "needBy", desc := "(III)I" } : Jvm.MethodName) "IslandCall") ∈ lw_tbl := lw_at lw_m5 102 rfl
theorem q1204 : (Jvm.Cond.instanceMethod ({ cls := "IslandCall", name := "fitsAt", desc := "(IIII)I" } : Jvm.MethodName)) ∈ lw_all := lw_g (lw_at lw_m5 104 rfl) rfl
theorem q1205 : (Jvm.Cond.selects "IslandCall" ({ cls := "IslandCall", name := "fitsAt", desc := "(IIII)I" } : Jvm.MethodName) ({ cls := "IslandCall", name := "fitsAt", desc := "(IIII)I" } : Jvm.MethodName)) ∈ lw_all := lw_g (lw_at lw_m5 105 rfl) rfl
theorem q1206 : (Jvm.Cond.codeWith ({ cls := "IslandCall", name := "fitsAt", desc := "(IIII)I" } : Jvm.MethodName) prog_1_method_79_code (6 : Nat) (Option.some Jvm.ClassFile.FieldType.int) [((5 : Nat), (64 : Nat), (65 : Nat), (41 : Nat))]) ∈ lw_all := lw_g (lw_at lw_m5 106 rfl) rfl
theorem q1207 : (Jvm.Cond.methodLink "IslandCall" (376 : Nat) ({ cls := "java/lang/Integer", name := "numberOfTrailingZeros", desc := "(I)I" } : Jvm.MethodName)) ∈ lw_all := lw_g (lw_at lw_m5 107 rfl) rfl
theorem q1211 : (Jvm.Cond.methodLink "IslandCall" (379 : Nat) ({ cls := "java/lang/Integer", name := "numberOfLeadingZeros", desc := "(I)I" } : Jvm.MethodName)) ∈ lw_all := lw_g (lw_at lw_m5 111 rfl) rfl
theorem q1215 : (Jvm.Cond.instanceMethod ({ cls := "IslandCall", name := "ask", desc := "(III)I" } : Jvm.MethodName)) ∈ lw_all := lw_g (lw_at lw_m5 115 rfl) rfl
theorem q1216 : (Jvm.Cond.selects "IslandCall" ({ cls := "IslandCall", name := "ask", desc := "(III)I" } : Jvm.MethodName) ({ cls := "IslandCall", name := "ask", desc := "(III)I" } : Jvm.MethodName)) ∈ lw_all := lw_g (lw_at lw_m5 116 rfl) rfl
theorem q1217 : (Jvm.Cond.codeWith ({ cls := "IslandCall", name := "ask", desc := "(III)I" } : Jvm.MethodName) prog_1_method_80_code (11 : Nat) (Option.some Jvm.ClassFile.FieldType.int) [((5 : Nat), (164 : Nat), (165 : Nat), (41 : Nat))]) ∈ lw_all := lw_g (lw_at lw_m5 117 rfl) rfl
theorem q1218 : (Jvm.Cond.methodLink "IslandCall" (382 : Nat) ({ cls := "java/lang/Math", name := "max", desc := "(II)I" } : Jvm.MethodName)) ∈ lw_all := lw_g (lw_at lw_m5 118 rfl) rfl
theorem q1220 : (Jvm.Cond.instanceMethod ({ cls := "IslandCall", name := "lookouts", desc := "()I" } : Jvm.MethodName)) ∈ lw_all := lw_g (lw_at lw_m5 120 rfl) rfl
theorem q1221 : (Jvm.Cond.selects "IslandCall" ({ cls := "IslandCall", name := "lookouts", desc := "()I" } : Jvm.MethodName) ({ cls := "IslandCall", name := "lookouts", desc := "()I" } : Jvm.MethodName)) ∈ lw_all := lw_g (lw_at lw_m5 121 rfl) rfl
theorem q1222 : (Jvm.Cond.code ({ cls := "IslandCall", name := "lookouts", desc := "()I" } : Jvm.MethodName) prog_1_method_82_code (1 : Nat) (Option.some Jvm.ClassFile.FieldType.int)) ∈ lw_all := lw_g (lw_at lw_m5 122 rfl) rfl
theorem q1223 : (Jvm.Cond.methodLink "IslandCall" (385 : Nat) ({ cls := "IslandCall", name := "looking", desc := "()I" } : Jvm.MethodName)) ∈ lw_all := lw_g (lw_at lw_m5 123 rfl) rfl
theorem q1224 : (Jvm.Cond.privateMethod ({ cls := "IslandCall", name := "looking", desc := "()I" } : Jvm.MethodName)) ∈ lw_tbl := lw_at lw_m5 124 rfl
theorem q1225 : (Jvm.Cond.instanceMethod ({ cls := "IslandCall", name := "looking", desc := "()I" } : Jvm.MethodName)) ∈ lw_all := lw_g (lw_at lw_m5 125 rfl) rfl
theorem q1226 : (Jvm.Cond.code ({ cls := "IslandCall", name := "looking", desc := "()I" } : Jvm.MethodName) prog_1_method_81_code (6 : Nat) (Option.some Jvm.ClassFile.FieldType.int)) ∈ lw_all := lw_g (lw_at lw_m5 126 rfl) rfl
theorem q1228 : (Jvm.Cond.instanceMethod ({ cls := "IslandCall", name := "lookoutSet", desc := "()I" } : Jvm.MethodName)) ∈ lw_all := lw_g (lw_at lw_m5 128 rfl) rfl
theorem q1229 : (Jvm.Cond.selects "IslandCall" ({ cls := "IslandCall", name := "lookoutSet", desc := "()I" } : Jvm.MethodName) ({ cls := "IslandCall", name := "lookoutSet", desc := "()I" } : Jvm.MethodName)) ∈ lw_all := lw_g (lw_at lw_m5 129 rfl) rfl
theorem q1230 : (Jvm.Cond.code ({ cls := "IslandCall", name := "lookoutSet", desc := "()I" } : Jvm.MethodName) prog_1_method_83_code (1 : Nat) (Option.some Jvm.ClassFile.FieldType.int)) ∈ lw_all := lw_g (lw_at lw_m5 130 rfl) rfl
theorem q1232 : (Jvm.Cond.instanceMethod ({ cls := "IslandCall", name := "couples", desc := "()I" } : Jvm.MethodName)) ∈ lw_all := lw_g (lw_at lw_m5 132 rfl) rfl
theorem q1233 : (Jvm.Cond.selects "IslandCall" ({ cls := "IslandCall", name := "couples", desc := "()I" } : Jvm.MethodName) ({ cls := "IslandCall", name := "couples", desc := "()I" } : Jvm.MethodName)) ∈ lw_all := lw_g (lw_at lw_m5 133 rfl) rfl
theorem q1234 : (Jvm.Cond.code ({ cls := "IslandCall", name := "couples", desc := "()I" } : Jvm.MethodName) prog_1_method_84_code (4 : Nat) (Option.some Jvm.ClassFile.FieldType.int)) ∈ lw_all := lw_g (lw_at lw_m5 134 rfl) rfl
theorem q1236 : (Jvm.Cond.instanceMethod ({ cls := "IslandCall", name := "game", desc := "(I)I" } : Jvm.MethodName)) ∈ lw_all := lw_g (lw_at lw_m5 136 rfl) rfl
theorem q1237 : (Jvm.Cond.selects "IslandCall" ({ cls := "IslandCall", name := "game", desc := "(I)I" } : Jvm.MethodName) ({ cls := "IslandCall", name := "game", desc := "(I)I" } : Jvm.MethodName)) ∈ lw_all := lw_g (lw_at lw_m5 137 rfl) rfl
theorem q1238 : (Jvm.Cond.code ({ cls := "IslandCall", name := "game", desc := "(I)I" } : Jvm.MethodName) prog_1_method_86_code (2 : Nat) (Option.some Jvm.ClassFile.FieldType.int)) ∈ lw_all := lw_g (lw_at lw_m5 138 rfl) rfl
theorem q1239 : (Jvm.Cond.methodLink "IslandCall" (388 : Nat) ({ cls := "IslandCall", name := "plays", desc := "(III)I" } : Jvm.MethodName)) ∈ lw_all := lw_g (lw_at lw_m5 139 rfl) rfl
theorem q1240 : (Jvm.Cond.privateMethod ({ cls := "IslandCall", name := "plays", desc := "(III)I" } : Jvm.MethodName)) ∈ lw_tbl := lw_at lw_m5 140 rfl
theorem q1241 : (Jvm.Cond.instanceMethod ({ cls := "IslandCall", name := "plays", desc := "(III)I" } : Jvm.MethodName)) ∈ lw_all := lw_g (lw_at lw_m5 141 rfl) rfl
theorem q1242 : (Jvm.Cond.code ({ cls := "IslandCall", name := "plays", desc := "(III)I" } : Jvm.MethodName) prog_1_method_85_code (9 : Nat) (Option.some Jvm.ClassFile.FieldType.int)) ∈ lw_all := lw_g (lw_at lw_m5 142 rfl) rfl
theorem q1244 : (Jvm.Cond.instanceMethod ({ cls := "IslandCall", name := "moveOf", desc := "(I)I" } : Jvm.MethodName)) ∈ lw_all := lw_g (lw_at lw_m5 144 rfl) rfl
theorem q1245 : (Jvm.Cond.selects "IslandCall" ({ cls := "IslandCall", name := "moveOf", desc := "(I)I" } : Jvm.MethodName) ({ cls := "IslandCall", name := "moveOf", desc := "(I)I" } : Jvm.MethodName)) ∈ lw_all := lw_g (lw_at lw_m5 145 rfl) rfl
theorem q1246 : (Jvm.Cond.code ({ cls := "IslandCall", name := "moveOf", desc := "(I)I" } : Jvm.MethodName) prog_1_method_87_code (2 : Nat) (Option.some Jvm.ClassFile.FieldType.int)) ∈ lw_all := lw_g (lw_at lw_m5 146 rfl) rfl
theorem q1248 : (Jvm.Cond.instanceMethod ({ cls := "IslandCall", name := "tides", desc := "(II)Z" } : Jvm.MethodName)) ∈ lw_all := lw_g (lw_at lw_m5 148 rfl) rfl
theorem q1249 : (Jvm.Cond.selects "IslandCall" ({ cls := "IslandCall", name := "tides", desc := "(II)Z" } : Jvm.MethodName) ({ cls := "IslandCall", name := "tides", desc := "(II)Z" } : Jvm.MethodName)) ∈ lw_all := lw_g (lw_at lw_m5 149 rfl) rfl
theorem q1250 : (Jvm.Cond.code ({ cls := "IslandCall", name := "tides", desc := "(II)Z" } : Jvm.MethodName) prog_1_method_88_code (8 : Nat) (Option.some Jvm.ClassFile.FieldType.boolean)) ∈ lw_all := lw_g (lw_at lw_m5 150 rfl) rfl
theorem q1251 : (Jvm.Cond.constantLong "IslandCall" (394 : Nat) (12 : Int64)) ∈ lw_all := lw_g (lw_at lw_m5 151 rfl) rfl
theorem q1252 : (Jvm.Cond.methodLink "IslandCall" (396 : Nat) ({ cls := "IslandCall", name := "fraction", desc := "(JJ)I" } : Jvm.MethodName)) ∈ lw_all := lw_g (lw_at lw_m5 152 rfl) rfl
theorem q1253 : (Jvm.Cond.privateMethod ({ cls := "IslandCall", name := "fraction", desc := "(JJ)I" } : Jvm.MethodName)) ∈ lw_tbl := lw_at lw_m5 153 rfl
theorem q1254 : (Jvm.Cond.instanceMethod ({ cls := "IslandCall", name := "fraction", desc := "(JJ)I" } : Jvm.MethodName)) ∈ lw_all := lw_g (lw_at lw_m5 154 rfl) rfl
theorem q1255 : (Jvm.Cond.code ({ cls := "IslandCall", name := "fraction", desc := "(JJ)I" } : Jvm.MethodName) prog_1_method_14_code (11 : Nat) (Option.some Jvm.ClassFile.FieldType.int)) ∈ lw_all := lw_g (lw_at lw_m5 155 rfl) rfl
theorem q1256 : (Jvm.Cond.methodLink "IslandCall" (89 : Nat) ({ cls := "java/lang/Math", name := "abs", desc := "(J)J" } : Jvm.MethodName)) ∈ lw_all := lw_g (lw_at lw_m5 156 rfl) rfl
theorem q1259 : (Jvm.Cond.methodLink "IslandCall" (95 : Nat) ({ cls := "java/lang/Long", name := "signum", desc := "(J)I" } : Jvm.MethodName)) ∈ lw_all := lw_g (lw_at lw_m5 159 rfl) rfl
theorem q1263 : (Jvm.Cond.instanceMethod ({ cls := "IslandCall", name := "sloth", desc := "(I)Z" } : Jvm.MethodName)) ∈ lw_all := lw_g (lw_at lw_m5 163 rfl) rfl
theorem q1264 : (Jvm.Cond.selects "IslandCall" ({ cls := "IslandCall", name := "sloth", desc := "(I)Z" } : Jvm.MethodName) ({ cls := "IslandCall", name := "sloth", desc := "(I)Z" } : Jvm.MethodName)) ∈ lw_all := lw_g (lw_at lw_m5 164 rfl) rfl
theorem q1265 : (Jvm.Cond.code ({ cls := "IslandCall", name := "sloth", desc := "(I)Z" } : Jvm.MethodName) prog_1_method_89_code (2 : Nat) (Option.some Jvm.ClassFile.FieldType.boolean)) ∈ lw_all := lw_g (lw_at lw_m5 165 rfl) rfl
theorem q1267 : (Jvm.Cond.instanceMethod ({ cls := "IslandCall", name := "copyHolds", desc := "(I)I" } : Jvm.MethodName)) ∈ lw_all := lw_g (lw_at lw_m5 167 rfl) rfl
theorem q1268 : (Jvm.Cond.selects "IslandCall" ({ cls := "IslandCall", name := "copyHolds", desc := "(I)I" } : Jvm.MethodName) ({ cls := "IslandCall", name := "copyHolds", desc := "(I)I" } : Jvm.MethodName)) ∈ lw_all := lw_g (lw_at lw_m5 168 rfl) rfl
theorem q1269 : (Jvm.Cond.codeWith ({ cls := "IslandCall", name := "copyHolds", desc := "(I)I" } : Jvm.MethodName) prog_1_method_90_code (3 : Nat) (Option.some Jvm.ClassFile.FieldType.int) [((5 : Nat), (47 : Nat), (50 : Nat), (41 : Nat))]) ∈ lw_all := lw_g (lw_at lw_m5 169 rfl) rfl
theorem q1270 : (Jvm.Cond.methodLink "IslandCall" (400 : Nat) ({ cls := "IslandCall", name := "write", desc := "(IIJ)Z" } : Jvm.MethodName)) ∈ lw_all := lw_g (lw_at lw_m5 170 rfl) rfl
theorem q1272 : (Jvm.Cond.instanceMethod ({ cls := "IslandCall", name := "live", desc := "(I)I" } : Jvm.MethodName)) ∈ lw_all := lw_g (lw_at lw_m5 172 rfl) rfl
theorem q1273 : (Jvm.Cond.selects "IslandCall" ({ cls := "IslandCall", name := "live", desc := "(I)I" } : Jvm.MethodName) ({ cls := "IslandCall", name := "live", desc := "(I)I" } : Jvm.MethodName)) ∈ lw_all := lw_g (lw_at lw_m5 173 rfl) rfl
theorem q1274 : (Jvm.Cond.code ({ cls := "IslandCall", name := "live", desc := "(I)I" } : Jvm.MethodName) prog_1_method_91_code (3 : Nat) (Option.some Jvm.ClassFile.FieldType.int)) ∈ lw_all := lw_g (lw_at lw_m5 174 rfl) rfl
theorem q1275 : (Jvm.Cond.constantLong "IslandCall" (404 : Nat) (9999 : Int64)) ∈ lw_all := lw_g (lw_at lw_m5 175 rfl) rfl
theorem q1276 : (Jvm.Cond.classLink "IslandCall" (406 : Nat) "IslandCall$Living") ∈ lw_all := lw_g (lw_at lw_m5 176 rfl) rfl
theorem q1278 : (Jvm.Cond.methodLink "IslandCall" (408 : Nat) ({ cls := "IslandCall$Living", name := "<init>", desc := "(LIslandCall$Boat;I)V" } : Jvm.MethodName)) ∈ lw_all := lw_g (lw_at lw_m5 178 rfl) rfl
theorem q1287 : (Jvm.Cond.fieldLinkNest "IslandCall" (429 : Nat) "IslandCall$Living" "done" "I" "IslandCall") ∈ lw_tbl := lw_at lw_m5 187 rfl
theorem q1289 : (Jvm.Cond.fieldLinkNest "IslandCall" (414 : Nat) "IslandCall$Living" "missed" "I" "IslandCall") ∈ lw_tbl := lw_at lw_m5 189 rfl
theorem q1291 : (Jvm.Cond.fieldLinkNest "IslandCall" (417 : Nat) "IslandCall$Living" "calls" "I" "IslandCall") ∈ lw_tbl := lw_at lw_m5 191 rfl
theorem q1293 : (Jvm.Cond.fieldLinkNest "IslandCall" (418 : Nat) "IslandCall$Living" "out" "I" "IslandCall") ∈ lw_tbl := lw_at lw_m5 193 rfl
theorem q1295 : (Jvm.Cond.fieldLinkNest "IslandCall" (420 : Nat) "IslandCall$Living" "sat" "I" "IslandCall") ∈ lw_tbl := lw_at lw_m5 195 rfl
theorem q1301 : (Jvm.Cond.fieldLinkNest "IslandCall" (422 : Nat) "IslandCall$Living" "isLeft" "Z" "IslandCall") ∈ lw_tbl := lw_at lw_m5 201 rfl
theorem q1321 : (Jvm.Cond.methodLink "IslandCall" (411 : Nat) ({ cls := "IslandCall$Loop", name := "all", desc := "(LIslandCall$Living;)V" } : Jvm.MethodName)) ∈ lw_all := lw_g (lw_at lw_m5 221 rfl) rfl
theorem q1383 : (Jvm.Cond.instanceMethod ({ cls := "IslandCall", name := "lived", desc := "(I)I" } : Jvm.MethodName)) ∈ lw_all := lw_g (lw_at lw_m6 43 rfl) rfl
theorem q1384 : (Jvm.Cond.selects "IslandCall" ({ cls := "IslandCall", name := "lived", desc := "(I)I" } : Jvm.MethodName) ({ cls := "IslandCall", name := "lived", desc := "(I)I" } : Jvm.MethodName)) ∈ lw_all := lw_g (lw_at lw_m6 44 rfl) rfl
theorem q1385 : (Jvm.Cond.code ({ cls := "IslandCall", name := "lived", desc := "(I)I" } : Jvm.MethodName) prog_1_method_92_code (2 : Nat) (Option.some Jvm.ClassFile.FieldType.int)) ∈ lw_all := lw_g (lw_at lw_m6 45 rfl) rfl
theorem q1386 : (Jvm.Cond.constantLong "IslandCall" (432 : Nat) (4 : Int64)) ∈ lw_all := lw_g (lw_at lw_m6 46 rfl) rfl
theorem q1388 : (Jvm.Cond.instanceMethod ({ cls := "IslandCall", name := "mean", desc := "(II)Z" } : Jvm.MethodName)) ∈ lw_all := lw_g (lw_at lw_m6 48 rfl) rfl
theorem q1389 : (Jvm.Cond.selects "IslandCall" ({ cls := "IslandCall", name := "mean", desc := "(II)Z" } : Jvm.MethodName) ({ cls := "IslandCall", name := "mean", desc := "(II)Z" } : Jvm.MethodName)) ∈ lw_all := lw_g (lw_at lw_m6 49 rfl) rfl
theorem q1390 : (Jvm.Cond.code ({ cls := "IslandCall", name := "mean", desc := "(II)Z" } : Jvm.MethodName) prog_1_method_93_code (6 : Nat) (Option.some Jvm.ClassFile.FieldType.boolean)) ∈ lw_all := lw_g (lw_at lw_m6 50 rfl) rfl
theorem q1392 : (Jvm.Cond.instanceMethod ({ cls := "IslandCall", name := "mark", desc := "()I" } : Jvm.MethodName)) ∈ lw_all := lw_g (lw_at lw_m6 52 rfl) rfl
theorem q1393 : (Jvm.Cond.selects "IslandCall" ({ cls := "IslandCall", name := "mark", desc := "()I" } : Jvm.MethodName) ({ cls := "IslandCall", name := "mark", desc := "()I" } : Jvm.MethodName)) ∈ lw_all := lw_g (lw_at lw_m6 53 rfl) rfl
theorem q1394 : (Jvm.Cond.code ({ cls := "IslandCall", name := "mark", desc := "()I" } : Jvm.MethodName) prog_1_method_94_code (1 : Nat) (Option.some Jvm.ClassFile.FieldType.int)) ∈ lw_all := lw_g (lw_at lw_m6 54 rfl) rfl
theorem q1395 : (Jvm.Cond.methodLink "IslandCall" (437 : Nat) ({ cls := "IslandCall$House", name := "be", desc := "(LIslandCall$House;)V" } : Jvm.MethodName)) ∈ lw_all := lw_g (lw_at lw_m6 55 rfl) rfl
theorem q1401 : (Jvm.Cond.instanceMethod ({ cls := "IslandCall", name := "undo", desc := "()I" } : Jvm.MethodName)) ∈ lw_all := lw_g (lw_at lw_m6 61 rfl) rfl
theorem q1402 : (Jvm.Cond.selects "IslandCall" ({ cls := "IslandCall", name := "undo", desc := "()I" } : Jvm.MethodName) ({ cls := "IslandCall", name := "undo", desc := "()I" } : Jvm.MethodName)) ∈ lw_all := lw_g (lw_at lw_m6 62 rfl) rfl
theorem q1403 : (Jvm.Cond.code ({ cls := "IslandCall", name := "undo", desc := "()I" } : Jvm.MethodName) prog_1_method_95_code (1 : Nat) (Option.some Jvm.ClassFile.FieldType.int)) ∈ lw_all := lw_g (lw_at lw_m6 63 rfl) rfl
theorem in_X0 : ∀ w ∈ wsX00, w ∈ lw_all := lw_in wsX00 [407, 409, 411, 413, 415, 417, 419, 421, 423, 425, 427, 429, 431, 433, 435, 437, 439, 441] (by decide +kernel) (by decide +kernel)
