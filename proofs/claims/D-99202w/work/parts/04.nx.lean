/-! IslandCall$Tray -/
set_option maxRecDepth 100000
def RX1 : String := "IslandCall$Tray"
def TX1 : u_T := fun k => match k with
  | _ => ("IslandCall$Tray", "row", "Ljava/lang/Object;", false)
def tyX1 : Nat → FieldType := fun k => match k with
  | _ => .object "java/lang/Object"
abbrev wsX10 : List Cond := u_ws RX1 TX1 1
theorem nmX1 : ∀ a, a < 1 → ∀ b, b < 1 → a ≠ b → (TX1 a).2.1 ≠ (TX1 b).2.1 := by decide +kernel
theorem tyX1_ok : ∀ k, k < 1 → parseFieldDescriptor (TX1 k).2.2.1 = some (tyX1 k) := by decide +kernel
abbrev cX1_init : ByteArray := prog_12_method_1_code
def yX1_init : MethodName := ⟨RX1, "<init>", "()V"⟩
theorem dX1_init_0 : decode cX1_init 0 = .ok (.aload_n 0, 1) := by decide +kernel
theorem dX1_init_1 : decode cX1_init 1 = .ok (.invokespecial 1, 3) := by decide +kernel
theorem dX1_init_4 : decode cX1_init 4 = .ok (.return_, 1) := by decide +kernel
theorem q142 : (Jvm.Cond.initialized "IslandCall$Tray") ∈ lw_all := lw_g (lw_at lw_m1 2 rfl) rfl
theorem q179 : (Jvm.Cond.instantiable "IslandCall$Tray" (1 : Nat)) ∈ lw_all := lw_g (lw_at lw_m1 39 rfl) rfl
theorem q181 : (Jvm.Cond.instanceMethod ({ cls := "IslandCall$Tray", name := "<init>", desc := "()V" } : Jvm.MethodName)) ∈ lw_all := lw_g (lw_at lw_m1 41 rfl) rfl
theorem q182 : (Jvm.Cond.code ({ cls := "IslandCall$Tray", name := "<init>", desc := "()V" } : Jvm.MethodName) prog_12_method_1_code (1 : Nat) (Option.none : Option Jvm.ClassFile.FieldType)) ∈ lw_all := lw_g (lw_at lw_m1 42 rfl) rfl
theorem q183 : (Jvm.Cond.methodLink "IslandCall$Tray" (1 : Nat) ({ cls := "java/lang/Object", name := "<init>", desc := "()V" } : Jvm.MethodName)) ∈ lw_all := lw_g (lw_at lw_m1 43 rfl) rfl
theorem q185 : (Jvm.Cond.lays "IslandCall$Tray" "IslandCall$Tray" "row" "Ljava/lang/Object;") ∈ lw_all := lw_g (lw_at lw_m1 45 rfl) rfl
theorem q186 : (Jvm.Cond.soleField "IslandCall$Tray" "row") ∈ lw_all := lw_g (lw_at lw_m1 46 rfl) rfl
theorem q187 : (Jvm.Cond.superclass "IslandCall$Tray" "java/lang/Object") ∈ lw_all := lw_g (lw_at lw_m1 47 rfl) rfl
theorem in_X1 : ∀ w ∈ wsX10, w ∈ lw_all := lw_in wsX10 [185] (by decide +kernel) (by decide +kernel)

/-! IslandCall$Bad -/
set_option maxRecDepth 100000
def RX2 : String := "IslandCall$Bad"
def TX2 : u_T := fun k => match k with
  | 0 => ("java/lang/Throwable", "cause", "Ljava/lang/Throwable;", false)
  | 1 => ("java/lang/Throwable", "stackTrace", "[Ljava/lang/StackTraceElement;", false)
  | 2 => ("java/lang/Throwable", "suppressedExceptions", "Ljava/util/List;", false)
  | 3 => ("java/lang/Throwable", "detailMessage", "Ljava/lang/String;", false)
  | 4 => ("java/lang/Throwable", "backtrace", "Ljava/lang/Object;", false)
  | 5 => ("java/lang/Throwable", "depth", "I", false)
  | 6 => ("IslandCall$Bad", "kind", "I", false)
  | _ => ("IslandCall$Bad", "place", "I", false)
def tyX2 : Nat → FieldType := fun k => match k with
  | 0 => .object "java/lang/Throwable"
  | 1 => .array (.object "java/lang/StackTraceElement")
  | 2 => .object "java/util/List"
  | 3 => .object "java/lang/String"
  | 4 => .object "java/lang/Object"
  | 5 => .int
  | 6 => .int
  | _ => .int
abbrev wsX20 : List Cond := u_ws RX2 TX2 8
theorem nmX2 : ∀ a, a < 8 → ∀ b, b < 8 → a ≠ b → (TX2 a).2.1 ≠ (TX2 b).2.1 := by decide +kernel
theorem tyX2_ok : ∀ k, k < 8 → parseFieldDescriptor (TX2 k).2.2.1 = some (tyX2 k) := by decide +kernel
abbrev cX2_init : ByteArray := prog_3_method_1_code
def yX2_init : MethodName := ⟨RX2, "<init>", "()V"⟩
def dkwX2_init_0 : List UInt8 := [42, 1, 1, 3, 3, 183, 0, 1, 177]
abbrev dktX2_init_0 : List UInt8 := dkwX2_init_0 ++ []
theorem dksX2_init_0 : cX2_init.data.toList.drop 0 = dktX2_init_0 := by decide +kernel
theorem dX2_init_0 : decode cX2_init 0 = .ok (.aload_n 0, 1) := dk_42 (dk_at dksX2_init_0 0 rfl rfl)
theorem dX2_init_1 : decode cX2_init 1 = .ok (.aconst_null, 1) := dk_1 (dk_at dksX2_init_0 1 rfl rfl)
theorem dX2_init_2 : decode cX2_init 2 = .ok (.aconst_null, 1) := dk_1 (dk_at dksX2_init_0 2 rfl rfl)
theorem dX2_init_3 : decode cX2_init 3 = .ok (.iconst 0, 1) := dk_3 (dk_at dksX2_init_0 3 rfl rfl)
theorem dX2_init_4 : decode cX2_init 4 = .ok (.iconst 0, 1) := dk_3 (dk_at dksX2_init_0 4 rfl rfl)
theorem dX2_init_5 : decode cX2_init 5 = .ok (.invokespecial 1, 3) := dk_183 0 1 (dk_at dksX2_init_0 5 rfl rfl)
theorem dX2_init_8 : decode cX2_init 8 = .ok (.return_, 1) := dk_177 (dk_at dksX2_init_0 8 rfl rfl)
abbrev cX2_at : ByteArray := prog_3_method_2_code
def yX2_at : MethodName := ⟨RX2, "at", "(II)LIslandCall$Bad;"⟩
def dkwX2_at_0 : List UInt8 := [42, 27, 181, 0, 7, 42, 28, 181, 0, 13, 42, 176]
abbrev dktX2_at_0 : List UInt8 := dkwX2_at_0 ++ []
theorem dksX2_at_0 : cX2_at.data.toList.drop 0 = dktX2_at_0 := by decide +kernel
theorem dX2_at_0 : decode cX2_at 0 = .ok (.aload_n 0, 1) := dk_42 (dk_at dksX2_at_0 0 rfl rfl)
theorem dX2_at_1 : decode cX2_at 1 = .ok (.iload_n 1, 1) := dk_27 (dk_at dksX2_at_0 1 rfl rfl)
theorem dX2_at_2 : decode cX2_at 2 = .ok (.putfield 7, 3) := dk_181 0 7 (dk_at dksX2_at_0 2 rfl rfl)
theorem dX2_at_5 : decode cX2_at 5 = .ok (.aload_n 0, 1) := dk_42 (dk_at dksX2_at_0 5 rfl rfl)
theorem dX2_at_6 : decode cX2_at 6 = .ok (.iload_n 2, 1) := dk_28 (dk_at dksX2_at_0 6 rfl rfl)
theorem dX2_at_7 : decode cX2_at 7 = .ok (.putfield 13, 3) := dk_181 0 13 (dk_at dksX2_at_0 7 rfl rfl)
theorem dX2_at_10 : decode cX2_at 10 = .ok (.aload_n 0, 1) := dk_42 (dk_at dksX2_at_0 10 rfl rfl)
theorem dX2_at_11 : decode cX2_at 11 = .ok (.areturn, 1) := dk_176 (dk_at dksX2_at_0 11 rfl rfl)
theorem q145 : (Jvm.Cond.initialized "IslandCall$Bad") ∈ lw_all := lw_g (lw_at lw_m1 5 rfl) rfl
theorem q189 : (Jvm.Cond.instantiable "IslandCall$Bad" (8 : Nat)) ∈ lw_all := lw_g (lw_at lw_m1 49 rfl) rfl
theorem q190 : (Jvm.Cond.castable "IslandCall$Bad" "IslandCall$Bad") ∈ lw_tbl := lw_at lw_m1 50 rfl
theorem q195 : (Jvm.Cond.selects "IslandCall$Bad" ({ cls := "java/lang/Throwable", name := "fillInStackTrace", desc := "(I)Ljava/lang/Throwable;" } : Jvm.MethodName) ({ cls := "java/lang/Throwable", name := "fillInStackTrace", desc := "(I)Ljava/lang/Throwable;" } : Jvm.MethodName)) ∈ lw_all := lw_g (lw_at lw_m1 55 rfl) rfl
theorem q196 : (Jvm.Cond.selects "IslandCall$Bad" ({ cls := "java/lang/Throwable", name := "fillInStackTrace", desc := "()Ljava/lang/Throwable;" } : Jvm.MethodName) ({ cls := "java/lang/Throwable", name := "fillInStackTrace", desc := "()Ljava/lang/Throwable;" } : Jvm.MethodName)) ∈ lw_all := lw_g (lw_at lw_m1 56 rfl) rfl
theorem q197 : (Jvm.Cond.lays "IslandCall$Bad" "java/lang/Throwable" "cause" "Ljava/lang/Throwable;") ∈ lw_all := lw_g (lw_at lw_m1 57 rfl) rfl
theorem q199 : (Jvm.Cond.lays "IslandCall$Bad" "java/lang/Throwable" "stackTrace" "[Ljava/lang/StackTraceElement;") ∈ lw_all := lw_g (lw_at lw_m1 59 rfl) rfl
theorem q201 : (Jvm.Cond.lays "IslandCall$Bad" "java/lang/Throwable" "suppressedExceptions" "Ljava/util/List;") ∈ lw_all := lw_g (lw_at lw_m1 61 rfl) rfl
theorem q203 : (Jvm.Cond.lays "IslandCall$Bad" "java/lang/Throwable" "detailMessage" "Ljava/lang/String;") ∈ lw_all := lw_g (lw_at lw_m1 63 rfl) rfl
theorem q205 : (Jvm.Cond.lays "IslandCall$Bad" "java/lang/Throwable" "backtrace" "Ljava/lang/Object;") ∈ lw_all := lw_g (lw_at lw_m1 65 rfl) rfl
theorem q229 : (Jvm.Cond.instanceMethod ({ cls := "IslandCall$Bad", name := "<init>", desc := "()V" } : Jvm.MethodName)) ∈ lw_all := lw_g (lw_at lw_m1 89 rfl) rfl
theorem q230 : (Jvm.Cond.code ({ cls := "IslandCall$Bad", name := "<init>", desc := "()V" } : Jvm.MethodName) prog_3_method_1_code (1 : Nat) (Option.none : Option Jvm.ClassFile.FieldType)) ∈ lw_all := lw_g (lw_at lw_m1 90 rfl) rfl
theorem q231 : (Jvm.Cond.methodLink "IslandCall$Bad" (1 : Nat) ({ cls := "java/lang/Exception", name := "<init>", desc := "(Ljava/lang/String;Ljava/lang/Throwable;ZZ)V" } : Jvm.MethodName)) ∈ lw_all := lw_g (lw_at lw_m1 91 rfl) rfl
theorem q237 : (Jvm.Cond.fieldLink "IslandCall$Bad" (7 : Nat) "IslandCall$Bad" "kind" "I") ∈ lw_all := lw_g (lw_at lw_m1 97 rfl) rfl
theorem q239 : (Jvm.Cond.fieldLink "IslandCall$Bad" (13 : Nat) "IslandCall$Bad" "place" "I") ∈ lw_all := lw_g (lw_at lw_m1 99 rfl) rfl
theorem q246 : (Jvm.Cond.lays "IslandCall$Bad" "IslandCall$Bad" "kind" "I") ∈ lw_all := lw_g (lw_at lw_m1 106 rfl) rfl
theorem q247 : (Jvm.Cond.soleField "IslandCall$Bad" "kind") ∈ lw_all := lw_g (lw_at lw_m1 107 rfl) rfl
theorem q248 : (Jvm.Cond.lays "IslandCall$Bad" "IslandCall$Bad" "place" "I") ∈ lw_all := lw_g (lw_at lw_m1 108 rfl) rfl
theorem q249 : (Jvm.Cond.soleField "IslandCall$Bad" "place") ∈ lw_all := lw_g (lw_at lw_m1 109 rfl) rfl
theorem q254 : (Jvm.Cond.lays "IslandCall$Bad" "java/lang/Throwable" "depth" "I") ∈ lw_all := lw_g (lw_at lw_m1 114 rfl) rfl
theorem q257 : (Jvm.Cond.superclass "IslandCall$Bad" "java/lang/Exception") ∈ lw_all := lw_g (lw_at lw_m1 117 rfl) rfl
theorem q687 : (Jvm.Cond.instanceMethod ({ cls := "IslandCall$Bad", name := "at", desc := "(II)LIslandCall$Bad;" } : Jvm.MethodName)) ∈ lw_all := lw_g (lw_at lw_m3 67 rfl) rfl
theorem q688 : (Jvm.Cond.selects "IslandCall$Bad" ({ cls := "IslandCall$Bad", name := "at", desc := "(II)LIslandCall$Bad;" } : Jvm.MethodName) ({ cls := "IslandCall$Bad", name := "at", desc := "(II)LIslandCall$Bad;" } : Jvm.MethodName)) ∈ lw_all := lw_g (lw_at lw_m3 68 rfl) rfl
theorem q689 : (Jvm.Cond.code ({ cls := "IslandCall$Bad", name := "at", desc := "(II)LIslandCall$Bad;" } : Jvm.MethodName) prog_3_method_2_code (3 : Nat) (Option.some (Jvm.ClassFile.FieldType.object "IslandCall$Bad"))) ∈ lw_all := lw_g (lw_at lw_m3 69 rfl) rfl
theorem in_X2 : ∀ w ∈ wsX20, w ∈ lw_all := lw_in wsX20 [197, 199, 201, 203, 205, 254, 246, 248] (by decide +kernel) (by decide +kernel)

/-! IslandCall$Refused -/
set_option maxRecDepth 100000
def RX3 : String := "IslandCall$Refused"
def TX3 : u_T := fun k => match k with
  | 0 => ("java/lang/Throwable", "cause", "Ljava/lang/Throwable;", false)
  | 1 => ("java/lang/Throwable", "stackTrace", "[Ljava/lang/StackTraceElement;", false)
  | 2 => ("java/lang/Throwable", "suppressedExceptions", "Ljava/util/List;", false)
  | 3 => ("java/lang/Throwable", "detailMessage", "Ljava/lang/String;", false)
  | 4 => ("java/lang/Throwable", "backtrace", "Ljava/lang/Object;", false)
  | 5 => ("java/lang/Throwable", "depth", "I", false)
  | _ => ("IslandCall$Refused", "why", "I", false)
def tyX3 : Nat → FieldType := fun k => match k with
  | 0 => .object "java/lang/Throwable"
  | 1 => .array (.object "java/lang/StackTraceElement")
  | 2 => .object "java/util/List"
  | 3 => .object "java/lang/String"
  | 4 => .object "java/lang/Object"
  | 5 => .int
  | _ => .int
abbrev wsX30 : List Cond := u_ws RX3 TX3 7
theorem nmX3 : ∀ a, a < 7 → ∀ b, b < 7 → a ≠ b → (TX3 a).2.1 ≠ (TX3 b).2.1 := by decide +kernel
theorem tyX3_ok : ∀ k, k < 7 → parseFieldDescriptor (TX3 k).2.2.1 = some (tyX3 k) := by decide +kernel
abbrev cX3_init : ByteArray := prog_10_method_1_code
def yX3_init : MethodName := ⟨RX3, "<init>", "()V"⟩
def dkwX3_init_0 : List UInt8 := [42, 1, 1, 3, 3, 183, 0, 1, 177]
abbrev dktX3_init_0 : List UInt8 := dkwX3_init_0 ++ []
theorem dksX3_init_0 : cX3_init.data.toList.drop 0 = dktX3_init_0 := by decide +kernel
theorem dX3_init_0 : decode cX3_init 0 = .ok (.aload_n 0, 1) := dk_42 (dk_at dksX3_init_0 0 rfl rfl)
theorem dX3_init_1 : decode cX3_init 1 = .ok (.aconst_null, 1) := dk_1 (dk_at dksX3_init_0 1 rfl rfl)
theorem dX3_init_2 : decode cX3_init 2 = .ok (.aconst_null, 1) := dk_1 (dk_at dksX3_init_0 2 rfl rfl)
theorem dX3_init_3 : decode cX3_init 3 = .ok (.iconst 0, 1) := dk_3 (dk_at dksX3_init_0 3 rfl rfl)
theorem dX3_init_4 : decode cX3_init 4 = .ok (.iconst 0, 1) := dk_3 (dk_at dksX3_init_0 4 rfl rfl)
theorem dX3_init_5 : decode cX3_init 5 = .ok (.invokespecial 1, 3) := dk_183 0 1 (dk_at dksX3_init_0 5 rfl rfl)
theorem dX3_init_8 : decode cX3_init 8 = .ok (.return_, 1) := dk_177 (dk_at dksX3_init_0 8 rfl rfl)
abbrev cX3_by : ByteArray := prog_10_method_2_code
def yX3_by : MethodName := ⟨RX3, "by", "(I)LIslandCall$Refused;"⟩
def dkwX3_by_0 : List UInt8 := [42, 27, 181, 0, 7, 42, 176]
abbrev dktX3_by_0 : List UInt8 := dkwX3_by_0 ++ []
theorem dksX3_by_0 : cX3_by.data.toList.drop 0 = dktX3_by_0 := by decide +kernel
theorem dX3_by_0 : decode cX3_by 0 = .ok (.aload_n 0, 1) := dk_42 (dk_at dksX3_by_0 0 rfl rfl)
theorem dX3_by_1 : decode cX3_by 1 = .ok (.iload_n 1, 1) := dk_27 (dk_at dksX3_by_0 1 rfl rfl)
theorem dX3_by_2 : decode cX3_by 2 = .ok (.putfield 7, 3) := dk_181 0 7 (dk_at dksX3_by_0 2 rfl rfl)
theorem dX3_by_5 : decode cX3_by 5 = .ok (.aload_n 0, 1) := dk_42 (dk_at dksX3_by_0 5 rfl rfl)
theorem dX3_by_6 : decode cX3_by 6 = .ok (.areturn, 1) := dk_176 (dk_at dksX3_by_0 6 rfl rfl)
theorem q146 : (Jvm.Cond.initialized "IslandCall$Refused") ∈ lw_all := lw_g (lw_at lw_m1 6 rfl) rfl
theorem q219 : (Jvm.Cond.selects "IslandCall$Refused" ({ cls := "java/lang/Throwable", name := "fillInStackTrace", desc := "()Ljava/lang/Throwable;" } : Jvm.MethodName) ({ cls := "java/lang/Throwable", name := "fillInStackTrace", desc := "()Ljava/lang/Throwable;" } : Jvm.MethodName)) ∈ lw_all := lw_g (lw_at lw_m1 79 rfl) rfl
theorem q260 : (Jvm.Cond.instantiable "IslandCall$Refused" (7 : Nat)) ∈ lw_all := lw_g (lw_at lw_m1 120 rfl) rfl
theorem q261 : (Jvm.Cond.castable "IslandCall$Refused" "IslandCall$Refused") ∈ lw_tbl := lw_at lw_m1 121 rfl
theorem q262 : (Jvm.Cond.selects "IslandCall$Refused" ({ cls := "java/lang/Throwable", name := "fillInStackTrace", desc := "(I)Ljava/lang/Throwable;" } : Jvm.MethodName) ({ cls := "java/lang/Throwable", name := "fillInStackTrace", desc := "(I)Ljava/lang/Throwable;" } : Jvm.MethodName)) ∈ lw_all := lw_g (lw_at lw_m1 122 rfl) rfl
theorem q263 : (Jvm.Cond.lays "IslandCall$Refused" "java/lang/Throwable" "cause" "Ljava/lang/Throwable;") ∈ lw_all := lw_g (lw_at lw_m1 123 rfl) rfl
theorem q264 : (Jvm.Cond.lays "IslandCall$Refused" "java/lang/Throwable" "stackTrace" "[Ljava/lang/StackTraceElement;") ∈ lw_all := lw_g (lw_at lw_m1 124 rfl) rfl
theorem q265 : (Jvm.Cond.lays "IslandCall$Refused" "java/lang/Throwable" "suppressedExceptions" "Ljava/util/List;") ∈ lw_all := lw_g (lw_at lw_m1 125 rfl) rfl
theorem q266 : (Jvm.Cond.lays "IslandCall$Refused" "java/lang/Throwable" "detailMessage" "Ljava/lang/String;") ∈ lw_all := lw_g (lw_at lw_m1 126 rfl) rfl
theorem q267 : (Jvm.Cond.lays "IslandCall$Refused" "java/lang/Throwable" "backtrace" "Ljava/lang/Object;") ∈ lw_all := lw_g (lw_at lw_m1 127 rfl) rfl
theorem q269 : (Jvm.Cond.instanceMethod ({ cls := "IslandCall$Refused", name := "<init>", desc := "()V" } : Jvm.MethodName)) ∈ lw_all := lw_g (lw_at lw_m1 129 rfl) rfl
theorem q270 : (Jvm.Cond.code ({ cls := "IslandCall$Refused", name := "<init>", desc := "()V" } : Jvm.MethodName) prog_10_method_1_code (1 : Nat) (Option.none : Option Jvm.ClassFile.FieldType)) ∈ lw_all := lw_g (lw_at lw_m1 130 rfl) rfl
theorem q271 : (Jvm.Cond.methodLink "IslandCall$Refused" (1 : Nat) ({ cls := "java/lang/Exception", name := "<init>", desc := "(Ljava/lang/String;Ljava/lang/Throwable;ZZ)V" } : Jvm.MethodName)) ∈ lw_all := lw_g (lw_at lw_m1 131 rfl) rfl
theorem q272 : (Jvm.Cond.fieldLink "IslandCall$Refused" (7 : Nat) "IslandCall$Refused" "why" "I") ∈ lw_all := lw_g (lw_at lw_m1 132 rfl) rfl
theorem q274 : (Jvm.Cond.lays "IslandCall$Refused" "IslandCall$Refused" "why" "I") ∈ lw_all := lw_g (lw_at lw_m1 134 rfl) rfl
theorem q275 : (Jvm.Cond.soleField "IslandCall$Refused" "why") ∈ lw_all := lw_g (lw_at lw_m1 135 rfl) rfl
theorem q276 : (Jvm.Cond.lays "IslandCall$Refused" "java/lang/Throwable" "depth" "I") ∈ lw_all := lw_g (lw_at lw_m1 136 rfl) rfl
theorem q277 : (Jvm.Cond.superclass "IslandCall$Refused" "java/lang/Exception") ∈ lw_all := lw_g (lw_at lw_m1 137 rfl) rfl
theorem q494 : (Jvm.Cond.instanceMethod ({ cls := "IslandCall$Refused", name := "by", desc := "(I)LIslandCall$Refused;" } : Jvm.MethodName)) ∈ lw_all := lw_g (lw_at lw_m2 114 rfl) rfl
theorem q495 : (Jvm.Cond.selects "IslandCall$Refused" ({ cls := "IslandCall$Refused", name := "by", desc := "(I)LIslandCall$Refused;" } : Jvm.MethodName) ({ cls := "IslandCall$Refused", name := "by", desc := "(I)LIslandCall$Refused;" } : Jvm.MethodName)) ∈ lw_all := lw_g (lw_at lw_m2 115 rfl) rfl
theorem q496 : (Jvm.Cond.code ({ cls := "IslandCall$Refused", name := "by", desc := "(I)LIslandCall$Refused;" } : Jvm.MethodName) prog_10_method_2_code (2 : Nat) (Option.some (Jvm.ClassFile.FieldType.object "IslandCall$Refused"))) ∈ lw_all := lw_g (lw_at lw_m2 116 rfl) rfl
theorem in_X3 : ∀ w ∈ wsX30, w ∈ lw_all := lw_in wsX30 [263, 264, 265, 266, 267, 276, 274] (by decide +kernel) (by decide +kernel)

/-! IslandCall$House -/
set_option maxRecDepth 100000
def RX4 : String := "IslandCall$House"
def TX4 : u_T := fun k => match k with
  | 0 => ("IslandCall$House", "boat", "LIslandCall$Boat;", true)
  | _ => ("IslandCall$House", "years", "LIslandCall$Loop;", false)
def tyX4 : Nat → FieldType := fun k => match k with
  | 0 => .object "IslandCall$Boat"
  | _ => .object "IslandCall$Loop"
abbrev wsX40 : List Cond := u_ws RX4 TX4 2
theorem nmX4 : ∀ a, a < 2 → ∀ b, b < 2 → a ≠ b → (TX4 a).2.1 ≠ (TX4 b).2.1 := by decide +kernel
theorem tyX4_ok : ∀ k, k < 2 → parseFieldDescriptor (TX4 k).2.2.1 = some (tyX4 k) := by decide +kernel
abbrev cX4_init : ByteArray := prog_6_method_1_code
def yX4_init : MethodName := ⟨RX4, "<init>", "()V"⟩
def dkwX4_init_0 : List UInt8 := [42, 183, 0, 1, 42, 187, 0, 7, 89, 183, 0, 9, 181, 0, 10, 177]
abbrev dktX4_init_0 : List UInt8 := dkwX4_init_0 ++ []
theorem dksX4_init_0 : cX4_init.data.toList.drop 0 = dktX4_init_0 := by decide +kernel
theorem dX4_init_0 : decode cX4_init 0 = .ok (.aload_n 0, 1) := dk_42 (dk_at dksX4_init_0 0 rfl rfl)
theorem dX4_init_1 : decode cX4_init 1 = .ok (.invokespecial 1, 3) := dk_183 0 1 (dk_at dksX4_init_0 1 rfl rfl)
theorem dX4_init_4 : decode cX4_init 4 = .ok (.aload_n 0, 1) := dk_42 (dk_at dksX4_init_0 4 rfl rfl)
theorem dX4_init_5 : decode cX4_init 5 = .ok (.new 7, 3) := dk_187 0 7 (dk_at dksX4_init_0 5 rfl rfl)
theorem dX4_init_8 : decode cX4_init 8 = .ok (.dup, 1) := dk_89 (dk_at dksX4_init_0 8 rfl rfl)
theorem dX4_init_9 : decode cX4_init 9 = .ok (.invokespecial 9, 3) := dk_183 0 9 (dk_at dksX4_init_0 9 rfl rfl)
theorem dX4_init_12 : decode cX4_init 12 = .ok (.putfield 10, 3) := dk_181 0 10 (dk_at dksX4_init_0 12 rfl rfl)
theorem dX4_init_15 : decode cX4_init 15 = .ok (.return_, 1) := dk_177 (dk_at dksX4_init_0 15 rfl rfl)
abbrev cX4_be : ByteArray := prog_6_method_2_code
def yX4_be : MethodName := ⟨RX4, "be", "(LIslandCall$House;)V"⟩
def dkwX4_be_0 : List UInt8 := [42, 180, 0, 10, 43, 180, 0, 10, 182, 0, 16, 42, 43, 180, 0, 20, 181, 0, 20, 177]
abbrev dktX4_be_0 : List UInt8 := dkwX4_be_0 ++ []
theorem dksX4_be_0 : cX4_be.data.toList.drop 0 = dktX4_be_0 := by decide +kernel
theorem dX4_be_0 : decode cX4_be 0 = .ok (.aload_n 0, 1) := dk_42 (dk_at dksX4_be_0 0 rfl rfl)
theorem dX4_be_1 : decode cX4_be 1 = .ok (.getfield 10, 3) := dk_180 0 10 (dk_at dksX4_be_0 1 rfl rfl)
theorem dX4_be_4 : decode cX4_be 4 = .ok (.aload_n 1, 1) := dk_43 (dk_at dksX4_be_0 4 rfl rfl)
theorem dX4_be_5 : decode cX4_be 5 = .ok (.getfield 10, 3) := dk_180 0 10 (dk_at dksX4_be_0 5 rfl rfl)
theorem dX4_be_8 : decode cX4_be 8 = .ok (.invokevirtual 16, 3) := dk_182 0 16 (dk_at dksX4_be_0 8 rfl rfl)
theorem dX4_be_11 : decode cX4_be 11 = .ok (.aload_n 0, 1) := dk_42 (dk_at dksX4_be_0 11 rfl rfl)
theorem dX4_be_12 : decode cX4_be 12 = .ok (.aload_n 1, 1) := dk_43 (dk_at dksX4_be_0 12 rfl rfl)
theorem dX4_be_13 : decode cX4_be 13 = .ok (.getfield 20, 3) := dk_180 0 20 (dk_at dksX4_be_0 13 rfl rfl)
theorem dX4_be_16 : decode cX4_be 16 = .ok (.putfield 20, 3) := dk_181 0 20 (dk_at dksX4_be_0 16 rfl rfl)
theorem dX4_be_19 : decode cX4_be 19 = .ok (.return_, 1) := dk_177 (dk_at dksX4_be_0 19 rfl rfl)
theorem q147 : (Jvm.Cond.initialized "IslandCall$House") ∈ lw_all := lw_g (lw_at lw_m1 7 rfl) rfl
theorem q279 : (Jvm.Cond.instantiable "IslandCall$House" (2 : Nat)) ∈ lw_all := lw_g (lw_at lw_m1 139 rfl) rfl
theorem q281 : (Jvm.Cond.instanceMethod ({ cls := "IslandCall$House", name := "<init>", desc := "()V" } : Jvm.MethodName)) ∈ lw_all := lw_g (lw_at lw_m1 141 rfl) rfl
theorem q282 : (Jvm.Cond.code ({ cls := "IslandCall$House", name := "<init>", desc := "()V" } : Jvm.MethodName) prog_6_method_1_code (1 : Nat) (Option.none : Option Jvm.ClassFile.FieldType)) ∈ lw_all := lw_g (lw_at lw_m1 142 rfl) rfl
theorem q283 : (Jvm.Cond.methodLink "IslandCall$House" (1 : Nat) ({ cls := "java/lang/Object", name := "<init>", desc := "()V" } : Jvm.MethodName)) ∈ lw_all := lw_g (lw_at lw_m1 143 rfl) rfl
theorem q284 : (Jvm.Cond.classLink "IslandCall$House" (7 : Nat) "IslandCall$Boat") ∈ lw_all := lw_g (lw_at lw_m1 144 rfl) rfl
theorem q286 : (Jvm.Cond.methodLinkNest "IslandCall$House" (9 : Nat) ({ cls := "IslandCall$Boat", name := "<init>", desc := "()V" } : Jvm.MethodName) "IslandCall") ∈ lw_tbl := lw_at lw_m1 146 rfl
theorem q375 : (Jvm.Cond.fieldLink "IslandCall$House" (10 : Nat) "IslandCall$House" "boat" "LIslandCall$Boat;") ∈ lw_all := lw_g (lw_at lw_m1 235 rfl) rfl
theorem q377 : (Jvm.Cond.fieldLink "IslandCall$House" (20 : Nat) "IslandCall$House" "years" "LIslandCall$Loop;") ∈ lw_all := lw_g (lw_at lw_m1 237 rfl) rfl
theorem q379 : (Jvm.Cond.laysFinal "IslandCall$House" "IslandCall$House" "boat" "LIslandCall$Boat;") ∈ lw_all := lw_g (lw_at lw_m1 239 rfl) rfl
theorem q380 : (Jvm.Cond.soleField "IslandCall$House" "boat") ∈ lw_all := lw_g (lw_at lw_m2 0 rfl) rfl
theorem q381 : (Jvm.Cond.lays "IslandCall$House" "IslandCall$House" "years" "LIslandCall$Loop;") ∈ lw_all := lw_g (lw_at lw_m2 1 rfl) rfl
theorem q382 : (Jvm.Cond.soleField "IslandCall$House" "years") ∈ lw_all := lw_g (lw_at lw_m2 2 rfl) rfl
theorem q383 : (Jvm.Cond.superclass "IslandCall$House" "java/lang/Object") ∈ lw_all := lw_g (lw_at lw_m2 3 rfl) rfl
theorem q1396 : (Jvm.Cond.instanceMethod ({ cls := "IslandCall$House", name := "be", desc := "(LIslandCall$House;)V" } : Jvm.MethodName)) ∈ lw_all := lw_g (lw_at lw_m6 56 rfl) rfl
theorem q1397 : (Jvm.Cond.selects "IslandCall$House" ({ cls := "IslandCall$House", name := "be", desc := "(LIslandCall$House;)V" } : Jvm.MethodName) ({ cls := "IslandCall$House", name := "be", desc := "(LIslandCall$House;)V" } : Jvm.MethodName)) ∈ lw_all := lw_g (lw_at lw_m6 57 rfl) rfl
theorem q1398 : (Jvm.Cond.code ({ cls := "IslandCall$House", name := "be", desc := "(LIslandCall$House;)V" } : Jvm.MethodName) prog_6_method_2_code (2 : Nat) (Option.none : Option Jvm.ClassFile.FieldType)) ∈ lw_all := lw_g (lw_at lw_m6 58 rfl) rfl
theorem q1399 : (Jvm.Cond.methodLink "IslandCall$House" (16 : Nat) ({ cls := "IslandCall$Boat", name := "be", desc := "(LIslandCall$Boat;)V" } : Jvm.MethodName)) ∈ lw_all := lw_g (lw_at lw_m6 59 rfl) rfl
theorem in_X4 : ∀ w ∈ wsX40, w ∈ lw_all := lw_in wsX40 [379, 381] (by decide +kernel) (by decide +kernel)

/-! IslandCall$Boat -/
set_option maxRecDepth 100000
def RX5 : String := "IslandCall$Boat"
def TX5 : u_T := fun k => match k with
  | 0 => ("IslandCall$Boat", "plank", "I", false)
  | 1 => ("IslandCall$Boat", "habit", "I", false)
  | 2 => ("IslandCall$Boat", "odds", "I", false)
  | 3 => ("IslandCall$Boat", "omens", "I", false)
  | 4 => ("IslandCall$Boat", "people", "I", false)
  | 5 => ("IslandCall$Boat", "calls", "I", false)
  | 6 => ("IslandCall$Boat", "aboard", "I", false)
  | 7 => ("IslandCall$Boat", "shown", "I", false)
  | 8 => ("IslandCall$Boat", "omenNames", "[J", false)
  | 9 => ("IslandCall$Boat", "personNames", "[J", false)
  | 10 => ("IslandCall$Boat", "pull", "[I", true)
  | 11 => ("IslandCall$Boat", "hold", "[I", true)
  | 12 => ("IslandCall$Boat", "excused", "[I", true)
  | 13 => ("IslandCall$Boat", "blind", "[I", true)
  | 14 => ("IslandCall$Boat", "sat", "[I", true)
  | _ => ("IslandCall$Boat", "roundMany", "I", false)
def tyX5 : Nat → FieldType := fun k => match k with
  | 0 => .int
  | 1 => .int
  | 2 => .int
  | 3 => .int
  | 4 => .int
  | 5 => .int
  | 6 => .int
  | 7 => .int
  | 8 => .array .long
  | 9 => .array .long
  | 10 => .array .int
  | 11 => .array .int
  | 12 => .array .int
  | 13 => .array .int
  | 14 => .array .int
  | _ => .int
abbrev wsX50 : List Cond := u_ws RX5 TX5 16
set_option maxRecDepth 100000 in
theorem nmX5 : ∀ a, a < 16 → ∀ b, b < 16 → a ≠ b → (TX5 a).2.1 ≠ (TX5 b).2.1 := by decide +kernel
set_option maxRecDepth 100000 in
theorem tyX5_ok : ∀ k, k < 16 → parseFieldDescriptor (TX5 k).2.2.1 = some (tyX5 k) := by decide +kernel
abbrev cX5_init : ByteArray := prog_5_method_1_code
def yX5_init : MethodName := ⟨RX5, "<init>", "()V"⟩
def dkwX5_init_3 : List UInt8 := [188, 10, 181, 0, 41, 177]
abbrev dktX5_init_3 : List UInt8 := dkwX5_init_3 ++ []
def dkwX5_init_2 : List UInt8 := [188, 10, 181, 0, 32, 42, 16, 8, 188, 10, 181, 0, 35, 42, 16, 8, 188, 10, 181, 0, 38, 42, 16, 8]
abbrev dktX5_init_2 : List UInt8 := dkwX5_init_2 ++ dktX5_init_3
def dkwX5_init_1 : List UInt8 := [188, 11, 181, 0, 21, 42, 16, 8, 188, 11, 181, 0, 25, 42, 16, 6, 188, 10, 181, 0, 28, 42, 16, 8]
abbrev dktX5_init_1 : List UInt8 := dkwX5_init_1 ++ dktX5_init_2
def dkwX5_init_0 : List UInt8 := [42, 183, 0, 3, 42, 7, 181, 0, 9, 42, 4, 181, 0, 15, 42, 16, 12, 181, 0, 18, 42, 16, 6]
abbrev dktX5_init_0 : List UInt8 := dkwX5_init_0 ++ dktX5_init_1
theorem dksX5_init_0 : cX5_init.data.toList.drop 0 = dktX5_init_0 := by decide +kernel
theorem dksX5_init_1 : cX5_init.data.toList.drop 23 = dktX5_init_1 := dk_seg dksX5_init_0 23 rfl rfl
theorem dksX5_init_2 : cX5_init.data.toList.drop 47 = dktX5_init_2 := dk_seg dksX5_init_1 24 rfl rfl
theorem dksX5_init_3 : cX5_init.data.toList.drop 71 = dktX5_init_3 := dk_seg dksX5_init_2 24 rfl rfl
theorem dX5_init_0 : decode cX5_init 0 = .ok (.aload_n 0, 1) := dk_42 (dk_at dksX5_init_0 0 rfl rfl)
theorem dX5_init_1 : decode cX5_init 1 = .ok (.invokespecial 3, 3) := dk_183 0 3 (dk_at dksX5_init_0 1 rfl rfl)
theorem dX5_init_4 : decode cX5_init 4 = .ok (.aload_n 0, 1) := dk_42 (dk_at dksX5_init_0 4 rfl rfl)
theorem dX5_init_5 : decode cX5_init 5 = .ok (.iconst 4, 1) := dk_7 (dk_at dksX5_init_0 5 rfl rfl)
theorem dX5_init_6 : decode cX5_init 6 = .ok (.putfield 9, 3) := dk_181 0 9 (dk_at dksX5_init_0 6 rfl rfl)
theorem dX5_init_9 : decode cX5_init 9 = .ok (.aload_n 0, 1) := dk_42 (dk_at dksX5_init_0 9 rfl rfl)
theorem dX5_init_10 : decode cX5_init 10 = .ok (.iconst 1, 1) := dk_4 (dk_at dksX5_init_0 10 rfl rfl)
theorem dX5_init_11 : decode cX5_init 11 = .ok (.putfield 15, 3) := dk_181 0 15 (dk_at dksX5_init_0 11 rfl rfl)
theorem dX5_init_14 : decode cX5_init 14 = .ok (.aload_n 0, 1) := dk_42 (dk_at dksX5_init_0 14 rfl rfl)
theorem dX5_init_15 : decode cX5_init 15 = .ok (.bipush 12, 2) := dk_16 12 (dk_at dksX5_init_0 15 rfl rfl)
theorem dX5_init_17 : decode cX5_init 17 = .ok (.putfield 18, 3) := dk_181 0 18 (dk_at dksX5_init_0 17 rfl rfl)
theorem dX5_init_20 : decode cX5_init 20 = .ok (.aload_n 0, 1) := dk_42 (dk_at dksX5_init_0 20 rfl rfl)
theorem dX5_init_21 : decode cX5_init 21 = .ok (.bipush 6, 2) := dk_16 6 (dk_at dksX5_init_0 21 rfl rfl)
theorem dX5_init_23 : decode cX5_init 23 = .ok (.newarray .long, 2) := dk_188_11 (dk_at dksX5_init_1 0 rfl rfl)
theorem dX5_init_25 : decode cX5_init 25 = .ok (.putfield 21, 3) := dk_181 0 21 (dk_at dksX5_init_1 2 rfl rfl)
theorem dX5_init_28 : decode cX5_init 28 = .ok (.aload_n 0, 1) := dk_42 (dk_at dksX5_init_1 5 rfl rfl)
theorem dX5_init_29 : decode cX5_init 29 = .ok (.bipush 8, 2) := dk_16 8 (dk_at dksX5_init_1 6 rfl rfl)
theorem dX5_init_31 : decode cX5_init 31 = .ok (.newarray .long, 2) := dk_188_11 (dk_at dksX5_init_1 8 rfl rfl)
theorem dX5_init_33 : decode cX5_init 33 = .ok (.putfield 25, 3) := dk_181 0 25 (dk_at dksX5_init_1 10 rfl rfl)
theorem dX5_init_36 : decode cX5_init 36 = .ok (.aload_n 0, 1) := dk_42 (dk_at dksX5_init_1 13 rfl rfl)
theorem dX5_init_37 : decode cX5_init 37 = .ok (.bipush 6, 2) := dk_16 6 (dk_at dksX5_init_1 14 rfl rfl)
theorem dX5_init_39 : decode cX5_init 39 = .ok (.newarray .int, 2) := dk_188_10 (dk_at dksX5_init_1 16 rfl rfl)
theorem dX5_init_41 : decode cX5_init 41 = .ok (.putfield 28, 3) := dk_181 0 28 (dk_at dksX5_init_1 18 rfl rfl)
theorem dX5_init_44 : decode cX5_init 44 = .ok (.aload_n 0, 1) := dk_42 (dk_at dksX5_init_1 21 rfl rfl)
theorem dX5_init_45 : decode cX5_init 45 = .ok (.bipush 8, 2) := dk_16 8 (dk_at dksX5_init_1 22 rfl rfl)
theorem dX5_init_47 : decode cX5_init 47 = .ok (.newarray .int, 2) := dk_188_10 (dk_at dksX5_init_2 0 rfl rfl)
theorem dX5_init_49 : decode cX5_init 49 = .ok (.putfield 32, 3) := dk_181 0 32 (dk_at dksX5_init_2 2 rfl rfl)
theorem dX5_init_52 : decode cX5_init 52 = .ok (.aload_n 0, 1) := dk_42 (dk_at dksX5_init_2 5 rfl rfl)
theorem dX5_init_53 : decode cX5_init 53 = .ok (.bipush 8, 2) := dk_16 8 (dk_at dksX5_init_2 6 rfl rfl)
theorem dX5_init_55 : decode cX5_init 55 = .ok (.newarray .int, 2) := dk_188_10 (dk_at dksX5_init_2 8 rfl rfl)
theorem dX5_init_57 : decode cX5_init 57 = .ok (.putfield 35, 3) := dk_181 0 35 (dk_at dksX5_init_2 10 rfl rfl)
theorem dX5_init_60 : decode cX5_init 60 = .ok (.aload_n 0, 1) := dk_42 (dk_at dksX5_init_2 13 rfl rfl)
theorem dX5_init_61 : decode cX5_init 61 = .ok (.bipush 8, 2) := dk_16 8 (dk_at dksX5_init_2 14 rfl rfl)
theorem dX5_init_63 : decode cX5_init 63 = .ok (.newarray .int, 2) := dk_188_10 (dk_at dksX5_init_2 16 rfl rfl)
theorem dX5_init_65 : decode cX5_init 65 = .ok (.putfield 38, 3) := dk_181 0 38 (dk_at dksX5_init_2 18 rfl rfl)
theorem dX5_init_68 : decode cX5_init 68 = .ok (.aload_n 0, 1) := dk_42 (dk_at dksX5_init_2 21 rfl rfl)
theorem dX5_init_69 : decode cX5_init 69 = .ok (.bipush 8, 2) := dk_16 8 (dk_at dksX5_init_2 22 rfl rfl)
theorem dX5_init_71 : decode cX5_init 71 = .ok (.newarray .int, 2) := dk_188_10 (dk_at dksX5_init_3 0 rfl rfl)
theorem dX5_init_73 : decode cX5_init 73 = .ok (.putfield 41, 3) := dk_181 0 41 (dk_at dksX5_init_3 2 rfl rfl)
theorem dX5_init_76 : decode cX5_init 76 = .ok (.return_, 1) := dk_177 (dk_at dksX5_init_3 5 rfl rfl)
abbrev cX5_omenNamed : ByteArray := prog_5_method_5_code
def yX5_omenNamed : MethodName := ⟨RX5, "omenNamed", "(J)I"⟩
def dkwX5_omenNamed_0 : List UInt8 := [42, 180, 0, 21, 42, 180, 0, 44, 31, 184, 0, 69, 172]
abbrev dktX5_omenNamed_0 : List UInt8 := dkwX5_omenNamed_0 ++ []
theorem dksX5_omenNamed_0 : cX5_omenNamed.data.toList.drop 0 = dktX5_omenNamed_0 := by decide +kernel
theorem dX5_omenNamed_0 : decode cX5_omenNamed 0 = .ok (.aload_n 0, 1) := dk_42 (dk_at dksX5_omenNamed_0 0 rfl rfl)
theorem dX5_omenNamed_1 : decode cX5_omenNamed 1 = .ok (.getfield 21, 3) := dk_180 0 21 (dk_at dksX5_omenNamed_0 1 rfl rfl)
theorem dX5_omenNamed_4 : decode cX5_omenNamed 4 = .ok (.aload_n 0, 1) := dk_42 (dk_at dksX5_omenNamed_0 4 rfl rfl)
theorem dX5_omenNamed_5 : decode cX5_omenNamed 5 = .ok (.getfield 44, 3) := dk_180 0 44 (dk_at dksX5_omenNamed_0 5 rfl rfl)
theorem dX5_omenNamed_8 : decode cX5_omenNamed 8 = .ok (.lload_n 1, 1) := dk_31 (dk_at dksX5_omenNamed_0 8 rfl rfl)
theorem dX5_omenNamed_9 : decode cX5_omenNamed 9 = .ok (.invokestatic 69, 3) := dk_184 0 69 (dk_at dksX5_omenNamed_0 9 rfl rfl)
theorem dX5_omenNamed_12 : decode cX5_omenNamed 12 = .ok (.ireturn, 1) := dk_172 (dk_at dksX5_omenNamed_0 12 rfl rfl)
abbrev cX5_find : ByteArray := prog_5_method_4_code
def yX5_find : MethodName := ⟨RX5, "find", "([JIJ)I"⟩
def dkwX5_find_1 : List UInt8 := [167, 255, 235, 2, 172]
abbrev dktX5_find_1 : List UInt8 := dkwX5_find_1 ++ []
def dkwX5_find_0 : List UInt8 := [3, 54, 4, 21, 4, 27, 162, 0, 21, 42, 21, 4, 47, 32, 148, 154, 0, 6, 21, 4, 172, 132, 4, 1]
abbrev dktX5_find_0 : List UInt8 := dkwX5_find_0 ++ dktX5_find_1
theorem dksX5_find_0 : cX5_find.data.toList.drop 0 = dktX5_find_0 := by decide +kernel
theorem dksX5_find_1 : cX5_find.data.toList.drop 24 = dktX5_find_1 := dk_seg dksX5_find_0 24 rfl rfl
theorem dX5_find_0 : decode cX5_find 0 = .ok (.iconst 0, 1) := dk_3 (dk_at dksX5_find_0 0 rfl rfl)
theorem dX5_find_1 : decode cX5_find 1 = .ok (.istore 4, 2) := dk_54 4 (dk_at dksX5_find_0 1 rfl rfl)
theorem dX5_find_3 : decode cX5_find 3 = .ok (.iload 4, 2) := dk_21 4 (dk_at dksX5_find_0 3 rfl rfl)
theorem dX5_find_5 : decode cX5_find 5 = .ok (.iload_n 1, 1) := dk_27 (dk_at dksX5_find_0 5 rfl rfl)
theorem dX5_find_6 : decode cX5_find 6 = .ok (.if_icmp .ge 21, 3) := dk_162 0 21 (dk_at dksX5_find_0 6 rfl rfl)
theorem dX5_find_9 : decode cX5_find 9 = .ok (.aload_n 0, 1) := dk_42 (dk_at dksX5_find_0 9 rfl rfl)
theorem dX5_find_10 : decode cX5_find 10 = .ok (.iload 4, 2) := dk_21 4 (dk_at dksX5_find_0 10 rfl rfl)
theorem dX5_find_12 : decode cX5_find 12 = .ok (.laload, 1) := dk_47 (dk_at dksX5_find_0 12 rfl rfl)
theorem dX5_find_13 : decode cX5_find 13 = .ok (.lload_n 2, 1) := dk_32 (dk_at dksX5_find_0 13 rfl rfl)
theorem dX5_find_14 : decode cX5_find 14 = .ok (.lcmp, 1) := dk_148 (dk_at dksX5_find_0 14 rfl rfl)
theorem dX5_find_15 : decode cX5_find 15 = .ok (.ifCond .ne 6, 3) := dk_154 0 6 (dk_at dksX5_find_0 15 rfl rfl)
theorem dX5_find_18 : decode cX5_find 18 = .ok (.iload 4, 2) := dk_21 4 (dk_at dksX5_find_0 18 rfl rfl)
theorem dX5_find_20 : decode cX5_find 20 = .ok (.ireturn, 1) := dk_172 (dk_at dksX5_find_0 20 rfl rfl)
theorem dX5_find_21 : decode cX5_find 21 = .ok (.iinc 4 1, 3) := dk_132 4 1 (dk_at dksX5_find_0 21 rfl rfl)
theorem dX5_find_24 : decode cX5_find 24 = .ok (.goto (-21), 3) := dk_167 255 235 (dk_at dksX5_find_1 0 rfl rfl)
theorem dX5_find_27 : decode cX5_find 27 = .ok (.iconst (-1), 1) := dk_2 (dk_at dksX5_find_1 3 rfl rfl)
theorem dX5_find_28 : decode cX5_find 28 = .ok (.ireturn, 1) := dk_172 (dk_at dksX5_find_1 4 rfl rfl)
abbrev cX5_personNamed : ByteArray := prog_5_method_6_code
def yX5_personNamed : MethodName := ⟨RX5, "personNamed", "(J)I"⟩
def dkwX5_personNamed_0 : List UInt8 := [42, 180, 0, 25, 42, 180, 0, 47, 31, 184, 0, 69, 172]
abbrev dktX5_personNamed_0 : List UInt8 := dkwX5_personNamed_0 ++ []
theorem dksX5_personNamed_0 : cX5_personNamed.data.toList.drop 0 = dktX5_personNamed_0 := by decide +kernel
theorem dX5_personNamed_0 : decode cX5_personNamed 0 = .ok (.aload_n 0, 1) := dk_42 (dk_at dksX5_personNamed_0 0 rfl rfl)
theorem dX5_personNamed_1 : decode cX5_personNamed 1 = .ok (.getfield 25, 3) := dk_180 0 25 (dk_at dksX5_personNamed_0 1 rfl rfl)
theorem dX5_personNamed_4 : decode cX5_personNamed 4 = .ok (.aload_n 0, 1) := dk_42 (dk_at dksX5_personNamed_0 4 rfl rfl)
theorem dX5_personNamed_5 : decode cX5_personNamed 5 = .ok (.getfield 47, 3) := dk_180 0 47 (dk_at dksX5_personNamed_0 5 rfl rfl)
theorem dX5_personNamed_8 : decode cX5_personNamed 8 = .ok (.lload_n 1, 1) := dk_31 (dk_at dksX5_personNamed_0 8 rfl rfl)
theorem dX5_personNamed_9 : decode cX5_personNamed 9 = .ok (.invokestatic 69, 3) := dk_184 0 69 (dk_at dksX5_personNamed_0 9 rfl rfl)
theorem dX5_personNamed_12 : decode cX5_personNamed 12 = .ok (.ireturn, 1) := dk_172 (dk_at dksX5_personNamed_0 12 rfl rfl)
abbrev cX5_comes : ByteArray := prog_5_method_10_code
def yX5_comes : MethodName := ⟨RX5, "comes", "(I)V"⟩
def dkwX5_comes_2 : List UInt8 := [180, 0, 47, 120, 128, 181, 0, 53, 42, 89, 180, 0, 47, 4, 96, 181, 0, 47, 177]
abbrev dktX5_comes_2 : List UInt8 := dkwX5_comes_2 ++ []
def dkwX5_comes_1 : List UInt8 := [42, 180, 0, 47, 3, 79, 42, 180, 0, 41, 42, 180, 0, 47, 3, 79, 42, 89, 180, 0, 53, 4, 42]
abbrev dktX5_comes_1 : List UInt8 := dkwX5_comes_1 ++ dktX5_comes_2
def dkwX5_comes_0 : List UInt8 := [42, 180, 0, 32, 42, 180, 0, 47, 27, 79, 42, 180, 0, 35, 42, 180, 0, 47, 3, 79, 42, 180, 0, 38]
abbrev dktX5_comes_0 : List UInt8 := dkwX5_comes_0 ++ dktX5_comes_1
theorem dksX5_comes_0 : cX5_comes.data.toList.drop 0 = dktX5_comes_0 := by decide +kernel
theorem dksX5_comes_1 : cX5_comes.data.toList.drop 24 = dktX5_comes_1 := dk_seg dksX5_comes_0 24 rfl rfl
theorem dksX5_comes_2 : cX5_comes.data.toList.drop 47 = dktX5_comes_2 := dk_seg dksX5_comes_1 23 rfl rfl
theorem dX5_comes_0 : decode cX5_comes 0 = .ok (.aload_n 0, 1) := dk_42 (dk_at dksX5_comes_0 0 rfl rfl)
theorem dX5_comes_1 : decode cX5_comes 1 = .ok (.getfield 32, 3) := dk_180 0 32 (dk_at dksX5_comes_0 1 rfl rfl)
theorem dX5_comes_4 : decode cX5_comes 4 = .ok (.aload_n 0, 1) := dk_42 (dk_at dksX5_comes_0 4 rfl rfl)
theorem dX5_comes_5 : decode cX5_comes 5 = .ok (.getfield 47, 3) := dk_180 0 47 (dk_at dksX5_comes_0 5 rfl rfl)
theorem dX5_comes_8 : decode cX5_comes 8 = .ok (.iload_n 1, 1) := dk_27 (dk_at dksX5_comes_0 8 rfl rfl)
theorem dX5_comes_9 : decode cX5_comes 9 = .ok (.iastore, 1) := dk_79 (dk_at dksX5_comes_0 9 rfl rfl)
theorem dX5_comes_10 : decode cX5_comes 10 = .ok (.aload_n 0, 1) := dk_42 (dk_at dksX5_comes_0 10 rfl rfl)
theorem dX5_comes_11 : decode cX5_comes 11 = .ok (.getfield 35, 3) := dk_180 0 35 (dk_at dksX5_comes_0 11 rfl rfl)
theorem dX5_comes_14 : decode cX5_comes 14 = .ok (.aload_n 0, 1) := dk_42 (dk_at dksX5_comes_0 14 rfl rfl)
theorem dX5_comes_15 : decode cX5_comes 15 = .ok (.getfield 47, 3) := dk_180 0 47 (dk_at dksX5_comes_0 15 rfl rfl)
theorem dX5_comes_18 : decode cX5_comes 18 = .ok (.iconst 0, 1) := dk_3 (dk_at dksX5_comes_0 18 rfl rfl)
theorem dX5_comes_19 : decode cX5_comes 19 = .ok (.iastore, 1) := dk_79 (dk_at dksX5_comes_0 19 rfl rfl)
theorem dX5_comes_20 : decode cX5_comes 20 = .ok (.aload_n 0, 1) := dk_42 (dk_at dksX5_comes_0 20 rfl rfl)
theorem dX5_comes_21 : decode cX5_comes 21 = .ok (.getfield 38, 3) := dk_180 0 38 (dk_at dksX5_comes_0 21 rfl rfl)
theorem dX5_comes_24 : decode cX5_comes 24 = .ok (.aload_n 0, 1) := dk_42 (dk_at dksX5_comes_1 0 rfl rfl)
theorem dX5_comes_25 : decode cX5_comes 25 = .ok (.getfield 47, 3) := dk_180 0 47 (dk_at dksX5_comes_1 1 rfl rfl)
theorem dX5_comes_28 : decode cX5_comes 28 = .ok (.iconst 0, 1) := dk_3 (dk_at dksX5_comes_1 4 rfl rfl)
theorem dX5_comes_29 : decode cX5_comes 29 = .ok (.iastore, 1) := dk_79 (dk_at dksX5_comes_1 5 rfl rfl)
theorem dX5_comes_30 : decode cX5_comes 30 = .ok (.aload_n 0, 1) := dk_42 (dk_at dksX5_comes_1 6 rfl rfl)
theorem dX5_comes_31 : decode cX5_comes 31 = .ok (.getfield 41, 3) := dk_180 0 41 (dk_at dksX5_comes_1 7 rfl rfl)
theorem dX5_comes_34 : decode cX5_comes 34 = .ok (.aload_n 0, 1) := dk_42 (dk_at dksX5_comes_1 10 rfl rfl)
theorem dX5_comes_35 : decode cX5_comes 35 = .ok (.getfield 47, 3) := dk_180 0 47 (dk_at dksX5_comes_1 11 rfl rfl)
theorem dX5_comes_38 : decode cX5_comes 38 = .ok (.iconst 0, 1) := dk_3 (dk_at dksX5_comes_1 14 rfl rfl)
theorem dX5_comes_39 : decode cX5_comes 39 = .ok (.iastore, 1) := dk_79 (dk_at dksX5_comes_1 15 rfl rfl)
theorem dX5_comes_40 : decode cX5_comes 40 = .ok (.aload_n 0, 1) := dk_42 (dk_at dksX5_comes_1 16 rfl rfl)
theorem dX5_comes_41 : decode cX5_comes 41 = .ok (.dup, 1) := dk_89 (dk_at dksX5_comes_1 17 rfl rfl)
theorem dX5_comes_42 : decode cX5_comes 42 = .ok (.getfield 53, 3) := dk_180 0 53 (dk_at dksX5_comes_1 18 rfl rfl)
theorem dX5_comes_45 : decode cX5_comes 45 = .ok (.iconst 1, 1) := dk_4 (dk_at dksX5_comes_1 21 rfl rfl)
theorem dX5_comes_46 : decode cX5_comes 46 = .ok (.aload_n 0, 1) := dk_42 (dk_at dksX5_comes_1 22 rfl rfl)
theorem dX5_comes_47 : decode cX5_comes 47 = .ok (.getfield 47, 3) := dk_180 0 47 (dk_at dksX5_comes_2 0 rfl rfl)
theorem dX5_comes_50 : decode cX5_comes 50 = .ok (.ishl, 1) := dk_120 (dk_at dksX5_comes_2 3 rfl rfl)
theorem dX5_comes_51 : decode cX5_comes 51 = .ok (.ior, 1) := dk_128 (dk_at dksX5_comes_2 4 rfl rfl)
theorem dX5_comes_52 : decode cX5_comes 52 = .ok (.putfield 53, 3) := dk_181 0 53 (dk_at dksX5_comes_2 5 rfl rfl)
theorem dX5_comes_55 : decode cX5_comes 55 = .ok (.aload_n 0, 1) := dk_42 (dk_at dksX5_comes_2 8 rfl rfl)
theorem dX5_comes_56 : decode cX5_comes 56 = .ok (.dup, 1) := dk_89 (dk_at dksX5_comes_2 9 rfl rfl)
theorem dX5_comes_57 : decode cX5_comes 57 = .ok (.getfield 47, 3) := dk_180 0 47 (dk_at dksX5_comes_2 10 rfl rfl)
theorem dX5_comes_60 : decode cX5_comes 60 = .ok (.iconst 1, 1) := dk_4 (dk_at dksX5_comes_2 13 rfl rfl)
theorem dX5_comes_61 : decode cX5_comes 61 = .ok (.iadd, 1) := dk_96 (dk_at dksX5_comes_2 14 rfl rfl)
theorem dX5_comes_62 : decode cX5_comes 62 = .ok (.putfield 47, 3) := dk_181 0 47 (dk_at dksX5_comes_2 15 rfl rfl)
theorem dX5_comes_65 : decode cX5_comes 65 = .ok (.return_, 1) := dk_177 (dk_at dksX5_comes_2 18 rfl rfl)
abbrev cX5_be : ByteArray := prog_5_method_2_code
def yX5_be : MethodName := ⟨RX5, "be", "(LIslandCall$Boat;)V"⟩
def dkwX5_be_5 : List UInt8 := [180, 0, 38, 184, 0, 59, 43, 180, 0, 41, 42, 180, 0, 41, 184, 0, 59, 177]
abbrev dktX5_be_5 : List UInt8 := dkwX5_be_5 ++ []
def dkwX5_be_4 : List UInt8 := [180, 0, 32, 184, 0, 59, 43, 180, 0, 35, 42, 180, 0, 35, 184, 0, 59, 43, 180, 0, 38, 42]
abbrev dktX5_be_4 : List UInt8 := dkwX5_be_4 ++ dktX5_be_5
def dkwX5_be_3 : List UInt8 := [42, 43, 180, 0, 25, 181, 0, 25, 43, 180, 0, 28, 42, 180, 0, 28, 184, 0, 59, 43, 180, 0, 32, 42]
abbrev dktX5_be_3 : List UInt8 := dkwX5_be_3 ++ dktX5_be_4
def dkwX5_be_2 : List UInt8 := [42, 43, 180, 0, 53, 181, 0, 53, 42, 43, 180, 0, 56, 181, 0, 56, 42, 43, 180, 0, 21, 181, 0, 21]
abbrev dktX5_be_2 : List UInt8 := dkwX5_be_2 ++ dktX5_be_3
def dkwX5_be_1 : List UInt8 := [42, 43, 180, 0, 44, 181, 0, 44, 42, 43, 180, 0, 47, 181, 0, 47, 42, 43, 180, 0, 50, 181, 0, 50]
abbrev dktX5_be_1 : List UInt8 := dkwX5_be_1 ++ dktX5_be_2
def dkwX5_be_0 : List UInt8 := [42, 43, 180, 0, 9, 181, 0, 9, 42, 43, 180, 0, 15, 181, 0, 15, 42, 43, 180, 0, 18, 181, 0, 18]
abbrev dktX5_be_0 : List UInt8 := dkwX5_be_0 ++ dktX5_be_1
theorem dksX5_be_0 : cX5_be.data.toList.drop 0 = dktX5_be_0 := by decide +kernel
theorem dksX5_be_1 : cX5_be.data.toList.drop 24 = dktX5_be_1 := dk_seg dksX5_be_0 24 rfl rfl
theorem dksX5_be_2 : cX5_be.data.toList.drop 48 = dktX5_be_2 := dk_seg dksX5_be_1 24 rfl rfl
theorem dksX5_be_3 : cX5_be.data.toList.drop 72 = dktX5_be_3 := dk_seg dksX5_be_2 24 rfl rfl
theorem dksX5_be_4 : cX5_be.data.toList.drop 96 = dktX5_be_4 := dk_seg dksX5_be_3 24 rfl rfl
theorem dksX5_be_5 : cX5_be.data.toList.drop 118 = dktX5_be_5 := dk_seg dksX5_be_4 22 rfl rfl
theorem dX5_be_0 : decode cX5_be 0 = .ok (.aload_n 0, 1) := dk_42 (dk_at dksX5_be_0 0 rfl rfl)
theorem dX5_be_1 : decode cX5_be 1 = .ok (.aload_n 1, 1) := dk_43 (dk_at dksX5_be_0 1 rfl rfl)
theorem dX5_be_2 : decode cX5_be 2 = .ok (.getfield 9, 3) := dk_180 0 9 (dk_at dksX5_be_0 2 rfl rfl)
theorem dX5_be_5 : decode cX5_be 5 = .ok (.putfield 9, 3) := dk_181 0 9 (dk_at dksX5_be_0 5 rfl rfl)
theorem dX5_be_8 : decode cX5_be 8 = .ok (.aload_n 0, 1) := dk_42 (dk_at dksX5_be_0 8 rfl rfl)
theorem dX5_be_9 : decode cX5_be 9 = .ok (.aload_n 1, 1) := dk_43 (dk_at dksX5_be_0 9 rfl rfl)
theorem dX5_be_10 : decode cX5_be 10 = .ok (.getfield 15, 3) := dk_180 0 15 (dk_at dksX5_be_0 10 rfl rfl)
theorem dX5_be_13 : decode cX5_be 13 = .ok (.putfield 15, 3) := dk_181 0 15 (dk_at dksX5_be_0 13 rfl rfl)
theorem dX5_be_16 : decode cX5_be 16 = .ok (.aload_n 0, 1) := dk_42 (dk_at dksX5_be_0 16 rfl rfl)
theorem dX5_be_17 : decode cX5_be 17 = .ok (.aload_n 1, 1) := dk_43 (dk_at dksX5_be_0 17 rfl rfl)
theorem dX5_be_18 : decode cX5_be 18 = .ok (.getfield 18, 3) := dk_180 0 18 (dk_at dksX5_be_0 18 rfl rfl)
theorem dX5_be_21 : decode cX5_be 21 = .ok (.putfield 18, 3) := dk_181 0 18 (dk_at dksX5_be_0 21 rfl rfl)
theorem dX5_be_24 : decode cX5_be 24 = .ok (.aload_n 0, 1) := dk_42 (dk_at dksX5_be_1 0 rfl rfl)
theorem dX5_be_25 : decode cX5_be 25 = .ok (.aload_n 1, 1) := dk_43 (dk_at dksX5_be_1 1 rfl rfl)
theorem dX5_be_26 : decode cX5_be 26 = .ok (.getfield 44, 3) := dk_180 0 44 (dk_at dksX5_be_1 2 rfl rfl)
theorem dX5_be_29 : decode cX5_be 29 = .ok (.putfield 44, 3) := dk_181 0 44 (dk_at dksX5_be_1 5 rfl rfl)
theorem dX5_be_32 : decode cX5_be 32 = .ok (.aload_n 0, 1) := dk_42 (dk_at dksX5_be_1 8 rfl rfl)
theorem dX5_be_33 : decode cX5_be 33 = .ok (.aload_n 1, 1) := dk_43 (dk_at dksX5_be_1 9 rfl rfl)
theorem dX5_be_34 : decode cX5_be 34 = .ok (.getfield 47, 3) := dk_180 0 47 (dk_at dksX5_be_1 10 rfl rfl)
theorem dX5_be_37 : decode cX5_be 37 = .ok (.putfield 47, 3) := dk_181 0 47 (dk_at dksX5_be_1 13 rfl rfl)
theorem dX5_be_40 : decode cX5_be 40 = .ok (.aload_n 0, 1) := dk_42 (dk_at dksX5_be_1 16 rfl rfl)
theorem dX5_be_41 : decode cX5_be 41 = .ok (.aload_n 1, 1) := dk_43 (dk_at dksX5_be_1 17 rfl rfl)
theorem dX5_be_42 : decode cX5_be 42 = .ok (.getfield 50, 3) := dk_180 0 50 (dk_at dksX5_be_1 18 rfl rfl)
theorem dX5_be_45 : decode cX5_be 45 = .ok (.putfield 50, 3) := dk_181 0 50 (dk_at dksX5_be_1 21 rfl rfl)
theorem dX5_be_48 : decode cX5_be 48 = .ok (.aload_n 0, 1) := dk_42 (dk_at dksX5_be_2 0 rfl rfl)
theorem dX5_be_49 : decode cX5_be 49 = .ok (.aload_n 1, 1) := dk_43 (dk_at dksX5_be_2 1 rfl rfl)
theorem dX5_be_50 : decode cX5_be 50 = .ok (.getfield 53, 3) := dk_180 0 53 (dk_at dksX5_be_2 2 rfl rfl)
theorem dX5_be_53 : decode cX5_be 53 = .ok (.putfield 53, 3) := dk_181 0 53 (dk_at dksX5_be_2 5 rfl rfl)
theorem dX5_be_56 : decode cX5_be 56 = .ok (.aload_n 0, 1) := dk_42 (dk_at dksX5_be_2 8 rfl rfl)
theorem dX5_be_57 : decode cX5_be 57 = .ok (.aload_n 1, 1) := dk_43 (dk_at dksX5_be_2 9 rfl rfl)
theorem dX5_be_58 : decode cX5_be 58 = .ok (.getfield 56, 3) := dk_180 0 56 (dk_at dksX5_be_2 10 rfl rfl)
theorem dX5_be_61 : decode cX5_be 61 = .ok (.putfield 56, 3) := dk_181 0 56 (dk_at dksX5_be_2 13 rfl rfl)
theorem dX5_be_64 : decode cX5_be 64 = .ok (.aload_n 0, 1) := dk_42 (dk_at dksX5_be_2 16 rfl rfl)
theorem dX5_be_65 : decode cX5_be 65 = .ok (.aload_n 1, 1) := dk_43 (dk_at dksX5_be_2 17 rfl rfl)
theorem dX5_be_66 : decode cX5_be 66 = .ok (.getfield 21, 3) := dk_180 0 21 (dk_at dksX5_be_2 18 rfl rfl)
theorem dX5_be_69 : decode cX5_be 69 = .ok (.putfield 21, 3) := dk_181 0 21 (dk_at dksX5_be_2 21 rfl rfl)
theorem dX5_be_72 : decode cX5_be 72 = .ok (.aload_n 0, 1) := dk_42 (dk_at dksX5_be_3 0 rfl rfl)
theorem dX5_be_73 : decode cX5_be 73 = .ok (.aload_n 1, 1) := dk_43 (dk_at dksX5_be_3 1 rfl rfl)
theorem dX5_be_74 : decode cX5_be 74 = .ok (.getfield 25, 3) := dk_180 0 25 (dk_at dksX5_be_3 2 rfl rfl)
theorem dX5_be_77 : decode cX5_be 77 = .ok (.putfield 25, 3) := dk_181 0 25 (dk_at dksX5_be_3 5 rfl rfl)
theorem dX5_be_80 : decode cX5_be 80 = .ok (.aload_n 1, 1) := dk_43 (dk_at dksX5_be_3 8 rfl rfl)
theorem dX5_be_81 : decode cX5_be 81 = .ok (.getfield 28, 3) := dk_180 0 28 (dk_at dksX5_be_3 9 rfl rfl)
theorem dX5_be_84 : decode cX5_be 84 = .ok (.aload_n 0, 1) := dk_42 (dk_at dksX5_be_3 12 rfl rfl)
theorem dX5_be_85 : decode cX5_be 85 = .ok (.getfield 28, 3) := dk_180 0 28 (dk_at dksX5_be_3 13 rfl rfl)
theorem dX5_be_88 : decode cX5_be 88 = .ok (.invokestatic 59, 3) := dk_184 0 59 (dk_at dksX5_be_3 16 rfl rfl)
theorem dX5_be_91 : decode cX5_be 91 = .ok (.aload_n 1, 1) := dk_43 (dk_at dksX5_be_3 19 rfl rfl)
theorem dX5_be_92 : decode cX5_be 92 = .ok (.getfield 32, 3) := dk_180 0 32 (dk_at dksX5_be_3 20 rfl rfl)
theorem dX5_be_95 : decode cX5_be 95 = .ok (.aload_n 0, 1) := dk_42 (dk_at dksX5_be_3 23 rfl rfl)
theorem dX5_be_96 : decode cX5_be 96 = .ok (.getfield 32, 3) := dk_180 0 32 (dk_at dksX5_be_4 0 rfl rfl)
theorem dX5_be_99 : decode cX5_be 99 = .ok (.invokestatic 59, 3) := dk_184 0 59 (dk_at dksX5_be_4 3 rfl rfl)
theorem dX5_be_102 : decode cX5_be 102 = .ok (.aload_n 1, 1) := dk_43 (dk_at dksX5_be_4 6 rfl rfl)
theorem dX5_be_103 : decode cX5_be 103 = .ok (.getfield 35, 3) := dk_180 0 35 (dk_at dksX5_be_4 7 rfl rfl)
theorem dX5_be_106 : decode cX5_be 106 = .ok (.aload_n 0, 1) := dk_42 (dk_at dksX5_be_4 10 rfl rfl)
theorem dX5_be_107 : decode cX5_be 107 = .ok (.getfield 35, 3) := dk_180 0 35 (dk_at dksX5_be_4 11 rfl rfl)
theorem dX5_be_110 : decode cX5_be 110 = .ok (.invokestatic 59, 3) := dk_184 0 59 (dk_at dksX5_be_4 14 rfl rfl)
theorem dX5_be_113 : decode cX5_be 113 = .ok (.aload_n 1, 1) := dk_43 (dk_at dksX5_be_4 17 rfl rfl)
theorem dX5_be_114 : decode cX5_be 114 = .ok (.getfield 38, 3) := dk_180 0 38 (dk_at dksX5_be_4 18 rfl rfl)
theorem dX5_be_117 : decode cX5_be 117 = .ok (.aload_n 0, 1) := dk_42 (dk_at dksX5_be_4 21 rfl rfl)
theorem dX5_be_118 : decode cX5_be 118 = .ok (.getfield 38, 3) := dk_180 0 38 (dk_at dksX5_be_5 0 rfl rfl)
theorem dX5_be_121 : decode cX5_be 121 = .ok (.invokestatic 59, 3) := dk_184 0 59 (dk_at dksX5_be_5 3 rfl rfl)
theorem dX5_be_124 : decode cX5_be 124 = .ok (.aload_n 1, 1) := dk_43 (dk_at dksX5_be_5 6 rfl rfl)
theorem dX5_be_125 : decode cX5_be 125 = .ok (.getfield 41, 3) := dk_180 0 41 (dk_at dksX5_be_5 7 rfl rfl)
theorem dX5_be_128 : decode cX5_be 128 = .ok (.aload_n 0, 1) := dk_42 (dk_at dksX5_be_5 10 rfl rfl)
theorem dX5_be_129 : decode cX5_be 129 = .ok (.getfield 41, 3) := dk_180 0 41 (dk_at dksX5_be_5 11 rfl rfl)
theorem dX5_be_132 : decode cX5_be 132 = .ok (.invokestatic 59, 3) := dk_184 0 59 (dk_at dksX5_be_5 14 rfl rfl)
theorem dX5_be_135 : decode cX5_be 135 = .ok (.return_, 1) := dk_177 (dk_at dksX5_be_5 17 rfl rfl)
abbrev cX5_copy : ByteArray := prog_5_method_3_code
def yX5_copy : MethodName := ⟨RX5, "copy", "([I[I)V"⟩
def dkwX5_copy_0 : List UInt8 := [42, 3, 43, 3, 42, 190, 184, 0, 63, 177]
abbrev dktX5_copy_0 : List UInt8 := dkwX5_copy_0 ++ []
theorem dksX5_copy_0 : cX5_copy.data.toList.drop 0 = dktX5_copy_0 := by decide +kernel
theorem dX5_copy_0 : decode cX5_copy 0 = .ok (.aload_n 0, 1) := dk_42 (dk_at dksX5_copy_0 0 rfl rfl)
theorem dX5_copy_1 : decode cX5_copy 1 = .ok (.iconst 0, 1) := dk_3 (dk_at dksX5_copy_0 1 rfl rfl)
theorem dX5_copy_2 : decode cX5_copy 2 = .ok (.aload_n 1, 1) := dk_43 (dk_at dksX5_copy_0 2 rfl rfl)
theorem dX5_copy_3 : decode cX5_copy 3 = .ok (.iconst 0, 1) := dk_3 (dk_at dksX5_copy_0 3 rfl rfl)
theorem dX5_copy_4 : decode cX5_copy 4 = .ok (.aload_n 0, 1) := dk_42 (dk_at dksX5_copy_0 4 rfl rfl)
theorem dX5_copy_5 : decode cX5_copy 5 = .ok (.arraylength, 1) := dk_190 (dk_at dksX5_copy_0 5 rfl rfl)
theorem dX5_copy_6 : decode cX5_copy 6 = .ok (.invokestatic 63, 3) := dk_184 0 63 (dk_at dksX5_copy_0 6 rfl rfl)
theorem dX5_copy_9 : decode cX5_copy 9 = .ok (.return_, 1) := dk_177 (dk_at dksX5_copy_0 9 rfl rfl)
abbrev cX5_allSat : ByteArray := prog_5_method_20_code
def yX5_allSat : MethodName := ⟨RX5, "allSat", "()I"⟩
def dkwX5_allSat_1 : List UInt8 := [167, 255, 236, 27, 172]
abbrev dktX5_allSat_1 : List UInt8 := dkwX5_allSat_1 ++ []
def dkwX5_allSat_0 : List UInt8 := [3, 60, 3, 61, 28, 42, 180, 0, 47, 162, 0, 18, 27, 42, 180, 0, 41, 28, 46, 96, 60, 132, 2, 1]
abbrev dktX5_allSat_0 : List UInt8 := dkwX5_allSat_0 ++ dktX5_allSat_1
theorem dksX5_allSat_0 : cX5_allSat.data.toList.drop 0 = dktX5_allSat_0 := by decide +kernel
theorem dksX5_allSat_1 : cX5_allSat.data.toList.drop 24 = dktX5_allSat_1 := dk_seg dksX5_allSat_0 24 rfl rfl
theorem dX5_allSat_0 : decode cX5_allSat 0 = .ok (.iconst 0, 1) := dk_3 (dk_at dksX5_allSat_0 0 rfl rfl)
theorem dX5_allSat_1 : decode cX5_allSat 1 = .ok (.istore_n 1, 1) := dk_60 (dk_at dksX5_allSat_0 1 rfl rfl)
theorem dX5_allSat_2 : decode cX5_allSat 2 = .ok (.iconst 0, 1) := dk_3 (dk_at dksX5_allSat_0 2 rfl rfl)
theorem dX5_allSat_3 : decode cX5_allSat 3 = .ok (.istore_n 2, 1) := dk_61 (dk_at dksX5_allSat_0 3 rfl rfl)
theorem dX5_allSat_4 : decode cX5_allSat 4 = .ok (.iload_n 2, 1) := dk_28 (dk_at dksX5_allSat_0 4 rfl rfl)
theorem dX5_allSat_5 : decode cX5_allSat 5 = .ok (.aload_n 0, 1) := dk_42 (dk_at dksX5_allSat_0 5 rfl rfl)
theorem dX5_allSat_6 : decode cX5_allSat 6 = .ok (.getfield 47, 3) := dk_180 0 47 (dk_at dksX5_allSat_0 6 rfl rfl)
theorem dX5_allSat_9 : decode cX5_allSat 9 = .ok (.if_icmp .ge 18, 3) := dk_162 0 18 (dk_at dksX5_allSat_0 9 rfl rfl)
theorem dX5_allSat_12 : decode cX5_allSat 12 = .ok (.iload_n 1, 1) := dk_27 (dk_at dksX5_allSat_0 12 rfl rfl)
theorem dX5_allSat_13 : decode cX5_allSat 13 = .ok (.aload_n 0, 1) := dk_42 (dk_at dksX5_allSat_0 13 rfl rfl)
theorem dX5_allSat_14 : decode cX5_allSat 14 = .ok (.getfield 41, 3) := dk_180 0 41 (dk_at dksX5_allSat_0 14 rfl rfl)
theorem dX5_allSat_17 : decode cX5_allSat 17 = .ok (.iload_n 2, 1) := dk_28 (dk_at dksX5_allSat_0 17 rfl rfl)
theorem dX5_allSat_18 : decode cX5_allSat 18 = .ok (.iaload, 1) := dk_46 (dk_at dksX5_allSat_0 18 rfl rfl)
theorem dX5_allSat_19 : decode cX5_allSat 19 = .ok (.iadd, 1) := dk_96 (dk_at dksX5_allSat_0 19 rfl rfl)
theorem dX5_allSat_20 : decode cX5_allSat 20 = .ok (.istore_n 1, 1) := dk_60 (dk_at dksX5_allSat_0 20 rfl rfl)
theorem dX5_allSat_21 : decode cX5_allSat 21 = .ok (.iinc 2 1, 3) := dk_132 2 1 (dk_at dksX5_allSat_0 21 rfl rfl)
theorem dX5_allSat_24 : decode cX5_allSat 24 = .ok (.goto (-20), 3) := dk_167 255 236 (dk_at dksX5_allSat_1 0 rfl rfl)
theorem dX5_allSat_27 : decode cX5_allSat 27 = .ok (.iload_n 1, 1) := dk_27 (dk_at dksX5_allSat_1 3 rfl rfl)
theorem dX5_allSat_28 : decode cX5_allSat 28 = .ok (.ireturn, 1) := dk_172 (dk_at dksX5_allSat_1 4 rfl rfl)
abbrev cX5_need : ByteArray := prog_5_method_12_code
def yX5_need : MethodName := ⟨RX5, "need", "(II)I"⟩
def dkwX5_need_0 : List UInt8 := [42, 27, 42, 180, 0, 32, 27, 46, 28, 182, 0, 87, 172]
abbrev dktX5_need_0 : List UInt8 := dkwX5_need_0 ++ []
theorem dksX5_need_0 : cX5_need.data.toList.drop 0 = dktX5_need_0 := by decide +kernel
theorem dX5_need_0 : decode cX5_need 0 = .ok (.aload_n 0, 1) := dk_42 (dk_at dksX5_need_0 0 rfl rfl)
theorem dX5_need_1 : decode cX5_need 1 = .ok (.iload_n 1, 1) := dk_27 (dk_at dksX5_need_0 1 rfl rfl)
theorem dX5_need_2 : decode cX5_need 2 = .ok (.aload_n 0, 1) := dk_42 (dk_at dksX5_need_0 2 rfl rfl)
theorem dX5_need_3 : decode cX5_need 3 = .ok (.getfield 32, 3) := dk_180 0 32 (dk_at dksX5_need_0 3 rfl rfl)
theorem dX5_need_6 : decode cX5_need 6 = .ok (.iload_n 1, 1) := dk_27 (dk_at dksX5_need_0 6 rfl rfl)
theorem dX5_need_7 : decode cX5_need 7 = .ok (.iaload, 1) := dk_46 (dk_at dksX5_need_0 7 rfl rfl)
theorem dX5_need_8 : decode cX5_need 8 = .ok (.iload_n 2, 1) := dk_28 (dk_at dksX5_need_0 8 rfl rfl)
theorem dX5_need_9 : decode cX5_need 9 = .ok (.invokevirtual 87, 3) := dk_182 0 87 (dk_at dksX5_need_0 9 rfl rfl)
theorem dX5_need_12 : decode cX5_need 12 = .ok (.ireturn, 1) := dk_172 (dk_at dksX5_need_0 12 rfl rfl)
abbrev cX5_needBy : ByteArray := prog_5_method_11_code
def yX5_needBy : MethodName := ⟨RX5, "needBy", "(III)I"⟩
def dkwX5_needBy_2 : List UInt8 := [167, 0, 4, 3, 100, 54, 4, 132, 5, 1, 167, 255, 205, 3, 21, 4, 184, 0, 81, 172]
abbrev dktX5_needBy_2 : List UInt8 := dkwX5_needBy_2 ++ []
def dkwX5_needBy_1 : List UInt8 := [153, 0, 27, 42, 180, 0, 35, 27, 46, 21, 5, 184, 0, 77, 154, 0, 13, 42, 180, 0, 28, 21, 5, 46]
abbrev dktX5_needBy_1 : List UInt8 := dkwX5_needBy_1 ++ dktX5_needBy_2
def dkwX5_needBy_0 : List UInt8 := [28, 54, 4, 3, 54, 5, 21, 5, 42, 180, 0, 44, 162, 0, 48, 21, 4, 29, 21, 5, 184, 0, 77]
abbrev dktX5_needBy_0 : List UInt8 := dkwX5_needBy_0 ++ dktX5_needBy_1
theorem dksX5_needBy_0 : cX5_needBy.data.toList.drop 0 = dktX5_needBy_0 := by decide +kernel
theorem dksX5_needBy_1 : cX5_needBy.data.toList.drop 23 = dktX5_needBy_1 := dk_seg dksX5_needBy_0 23 rfl rfl
theorem dksX5_needBy_2 : cX5_needBy.data.toList.drop 47 = dktX5_needBy_2 := dk_seg dksX5_needBy_1 24 rfl rfl
theorem dX5_needBy_0 : decode cX5_needBy 0 = .ok (.iload_n 2, 1) := dk_28 (dk_at dksX5_needBy_0 0 rfl rfl)
theorem dX5_needBy_1 : decode cX5_needBy 1 = .ok (.istore 4, 2) := dk_54 4 (dk_at dksX5_needBy_0 1 rfl rfl)
theorem dX5_needBy_3 : decode cX5_needBy 3 = .ok (.iconst 0, 1) := dk_3 (dk_at dksX5_needBy_0 3 rfl rfl)
theorem dX5_needBy_4 : decode cX5_needBy 4 = .ok (.istore 5, 2) := dk_54 5 (dk_at dksX5_needBy_0 4 rfl rfl)
theorem dX5_needBy_6 : decode cX5_needBy 6 = .ok (.iload 5, 2) := dk_21 5 (dk_at dksX5_needBy_0 6 rfl rfl)
theorem dX5_needBy_8 : decode cX5_needBy 8 = .ok (.aload_n 0, 1) := dk_42 (dk_at dksX5_needBy_0 8 rfl rfl)
theorem dX5_needBy_9 : decode cX5_needBy 9 = .ok (.getfield 44, 3) := dk_180 0 44 (dk_at dksX5_needBy_0 9 rfl rfl)
theorem dX5_needBy_12 : decode cX5_needBy 12 = .ok (.if_icmp .ge 48, 3) := dk_162 0 48 (dk_at dksX5_needBy_0 12 rfl rfl)
theorem dX5_needBy_15 : decode cX5_needBy 15 = .ok (.iload 4, 2) := dk_21 4 (dk_at dksX5_needBy_0 15 rfl rfl)
theorem dX5_needBy_17 : decode cX5_needBy 17 = .ok (.iload_n 3, 1) := dk_29 (dk_at dksX5_needBy_0 17 rfl rfl)
theorem dX5_needBy_18 : decode cX5_needBy 18 = .ok (.iload 5, 2) := dk_21 5 (dk_at dksX5_needBy_0 18 rfl rfl)
theorem dX5_needBy_20 : decode cX5_needBy 20 = .ok (.invokestatic 77, 3) := dk_184 0 77 (dk_at dksX5_needBy_0 20 rfl rfl)
theorem dX5_needBy_23 : decode cX5_needBy 23 = .ok (.ifCond .eq 27, 3) := dk_153 0 27 (dk_at dksX5_needBy_1 0 rfl rfl)
theorem dX5_needBy_26 : decode cX5_needBy 26 = .ok (.aload_n 0, 1) := dk_42 (dk_at dksX5_needBy_1 3 rfl rfl)
theorem dX5_needBy_27 : decode cX5_needBy 27 = .ok (.getfield 35, 3) := dk_180 0 35 (dk_at dksX5_needBy_1 4 rfl rfl)
theorem dX5_needBy_30 : decode cX5_needBy 30 = .ok (.iload_n 1, 1) := dk_27 (dk_at dksX5_needBy_1 7 rfl rfl)
theorem dX5_needBy_31 : decode cX5_needBy 31 = .ok (.iaload, 1) := dk_46 (dk_at dksX5_needBy_1 8 rfl rfl)
theorem dX5_needBy_32 : decode cX5_needBy 32 = .ok (.iload 5, 2) := dk_21 5 (dk_at dksX5_needBy_1 9 rfl rfl)
theorem dX5_needBy_34 : decode cX5_needBy 34 = .ok (.invokestatic 77, 3) := dk_184 0 77 (dk_at dksX5_needBy_1 11 rfl rfl)
theorem dX5_needBy_37 : decode cX5_needBy 37 = .ok (.ifCond .ne 13, 3) := dk_154 0 13 (dk_at dksX5_needBy_1 14 rfl rfl)
theorem dX5_needBy_40 : decode cX5_needBy 40 = .ok (.aload_n 0, 1) := dk_42 (dk_at dksX5_needBy_1 17 rfl rfl)
theorem dX5_needBy_41 : decode cX5_needBy 41 = .ok (.getfield 28, 3) := dk_180 0 28 (dk_at dksX5_needBy_1 18 rfl rfl)
theorem dX5_needBy_44 : decode cX5_needBy 44 = .ok (.iload 5, 2) := dk_21 5 (dk_at dksX5_needBy_1 21 rfl rfl)
theorem dX5_needBy_46 : decode cX5_needBy 46 = .ok (.iaload, 1) := dk_46 (dk_at dksX5_needBy_1 23 rfl rfl)
theorem dX5_needBy_47 : decode cX5_needBy 47 = .ok (.goto 4, 3) := dk_167 0 4 (dk_at dksX5_needBy_2 0 rfl rfl)
theorem dX5_needBy_50 : decode cX5_needBy 50 = .ok (.iconst 0, 1) := dk_3 (dk_at dksX5_needBy_2 3 rfl rfl)
theorem dX5_needBy_51 : decode cX5_needBy 51 = .ok (.isub, 1) := dk_100 (dk_at dksX5_needBy_2 4 rfl rfl)
theorem dX5_needBy_52 : decode cX5_needBy 52 = .ok (.istore 4, 2) := dk_54 4 (dk_at dksX5_needBy_2 5 rfl rfl)
theorem dX5_needBy_54 : decode cX5_needBy 54 = .ok (.iinc 5 1, 3) := dk_132 5 1 (dk_at dksX5_needBy_2 7 rfl rfl)
theorem dX5_needBy_57 : decode cX5_needBy 57 = .ok (.goto (-51), 3) := dk_167 255 205 (dk_at dksX5_needBy_2 10 rfl rfl)
theorem dX5_needBy_60 : decode cX5_needBy 60 = .ok (.iconst 0, 1) := dk_3 (dk_at dksX5_needBy_2 13 rfl rfl)
theorem dX5_needBy_61 : decode cX5_needBy 61 = .ok (.iload 4, 2) := dk_21 4 (dk_at dksX5_needBy_2 14 rfl rfl)
theorem dX5_needBy_63 : decode cX5_needBy 63 = .ok (.invokestatic 81, 3) := dk_184 0 81 (dk_at dksX5_needBy_2 16 rfl rfl)
theorem dX5_needBy_66 : decode cX5_needBy 66 = .ok (.ireturn, 1) := dk_172 (dk_at dksX5_needBy_2 19 rfl rfl)
abbrev cX5_sees : ByteArray := prog_5_method_9_code
def yX5_sees : MethodName := ⟨RX5, "sees", "(I)I"⟩
def dkwX5_sees_0 : List UInt8 := [42, 182, 0, 73, 42, 180, 0, 38, 27, 46, 2, 130, 126, 4, 27, 120, 2, 130, 126, 172]
abbrev dktX5_sees_0 : List UInt8 := dkwX5_sees_0 ++ []
theorem dksX5_sees_0 : cX5_sees.data.toList.drop 0 = dktX5_sees_0 := by decide +kernel
theorem dX5_sees_0 : decode cX5_sees 0 = .ok (.aload_n 0, 1) := dk_42 (dk_at dksX5_sees_0 0 rfl rfl)
theorem dX5_sees_1 : decode cX5_sees 1 = .ok (.invokevirtual 73, 3) := dk_182 0 73 (dk_at dksX5_sees_0 1 rfl rfl)
theorem dX5_sees_4 : decode cX5_sees 4 = .ok (.aload_n 0, 1) := dk_42 (dk_at dksX5_sees_0 4 rfl rfl)
theorem dX5_sees_5 : decode cX5_sees 5 = .ok (.getfield 38, 3) := dk_180 0 38 (dk_at dksX5_sees_0 5 rfl rfl)
theorem dX5_sees_8 : decode cX5_sees 8 = .ok (.iload_n 1, 1) := dk_27 (dk_at dksX5_sees_0 8 rfl rfl)
theorem dX5_sees_9 : decode cX5_sees 9 = .ok (.iaload, 1) := dk_46 (dk_at dksX5_sees_0 9 rfl rfl)
theorem dX5_sees_10 : decode cX5_sees 10 = .ok (.iconst (-1), 1) := dk_2 (dk_at dksX5_sees_0 10 rfl rfl)
theorem dX5_sees_11 : decode cX5_sees 11 = .ok (.ixor, 1) := dk_130 (dk_at dksX5_sees_0 11 rfl rfl)
theorem dX5_sees_12 : decode cX5_sees 12 = .ok (.iand, 1) := dk_126 (dk_at dksX5_sees_0 12 rfl rfl)
theorem dX5_sees_13 : decode cX5_sees 13 = .ok (.iconst 1, 1) := dk_4 (dk_at dksX5_sees_0 13 rfl rfl)
theorem dX5_sees_14 : decode cX5_sees 14 = .ok (.iload_n 1, 1) := dk_27 (dk_at dksX5_sees_0 14 rfl rfl)
theorem dX5_sees_15 : decode cX5_sees 15 = .ok (.ishl, 1) := dk_120 (dk_at dksX5_sees_0 15 rfl rfl)
theorem dX5_sees_16 : decode cX5_sees 16 = .ok (.iconst (-1), 1) := dk_2 (dk_at dksX5_sees_0 16 rfl rfl)
theorem dX5_sees_17 : decode cX5_sees 17 = .ok (.ixor, 1) := dk_130 (dk_at dksX5_sees_0 17 rfl rfl)
theorem dX5_sees_18 : decode cX5_sees 18 = .ok (.iand, 1) := dk_126 (dk_at dksX5_sees_0 18 rfl rfl)
theorem dX5_sees_19 : decode cX5_sees 19 = .ok (.ireturn, 1) := dk_172 (dk_at dksX5_sees_0 19 rfl rfl)
abbrev cX5_all : ByteArray := prog_5_method_7_code
def yX5_all : MethodName := ⟨RX5, "all", "()I"⟩
def dkwX5_all_0 : List UInt8 := [4, 42, 180, 0, 47, 120, 4, 100, 172]
abbrev dktX5_all_0 : List UInt8 := dkwX5_all_0 ++ []
theorem dksX5_all_0 : cX5_all.data.toList.drop 0 = dktX5_all_0 := by decide +kernel
theorem dX5_all_0 : decode cX5_all 0 = .ok (.iconst 1, 1) := dk_4 (dk_at dksX5_all_0 0 rfl rfl)
theorem dX5_all_1 : decode cX5_all 1 = .ok (.aload_n 0, 1) := dk_42 (dk_at dksX5_all_0 1 rfl rfl)
theorem dX5_all_2 : decode cX5_all 2 = .ok (.getfield 47, 3) := dk_180 0 47 (dk_at dksX5_all_0 2 rfl rfl)
theorem dX5_all_5 : decode cX5_all 5 = .ok (.ishl, 1) := dk_120 (dk_at dksX5_all_0 5 rfl rfl)
theorem dX5_all_6 : decode cX5_all 6 = .ok (.iconst 1, 1) := dk_4 (dk_at dksX5_all_0 6 rfl rfl)
theorem dX5_all_7 : decode cX5_all 7 = .ok (.isub, 1) := dk_100 (dk_at dksX5_all_0 7 rfl rfl)
theorem dX5_all_8 : decode cX5_all 8 = .ok (.ireturn, 1) := dk_172 (dk_at dksX5_all_0 8 rfl rfl)
abbrev cX5_call : ByteArray := prog_5_method_18_code
def yX5_call : MethodName := ⟨RX5, "call", "()I"⟩
def dkwX5_call_4 : List UInt8 := [27, 172]
abbrev dktX5_call_4 : List UInt8 := dkwX5_call_4 ++ []
def dkwX5_call_3 : List UInt8 := [180, 0, 15, 96, 184, 0, 119, 79, 42, 180, 0, 41, 28, 92, 46, 4, 96, 79, 132, 2, 1, 167, 255, 199]
abbrev dktX5_call_3 : List UInt8 := dkwX5_call_3 ++ dktX5_call_4
def dkwX5_call_2 : List UInt8 := [184, 0, 77, 154, 0, 6, 167, 0, 35, 42, 180, 0, 32, 28, 16, 9, 42, 180, 0, 32, 28, 46, 42]
abbrev dktX5_call_2 : List UInt8 := dkwX5_call_2 ++ dktX5_call_3
def dkwX5_call_1 : List UInt8 := [180, 0, 50, 4, 96, 181, 0, 50, 3, 61, 28, 42, 180, 0, 47, 162, 0, 55, 42, 180, 0, 53, 28]
abbrev dktX5_call_1 : List UInt8 := dkwX5_call_1 ++ dktX5_call_2
def dkwX5_call_0 : List UInt8 := [42, 42, 180, 0, 56, 182, 0, 116, 60, 42, 89, 180, 0, 53, 27, 2, 130, 126, 181, 0, 53, 42, 89]
abbrev dktX5_call_0 : List UInt8 := dkwX5_call_0 ++ dktX5_call_1
theorem dksX5_call_0 : cX5_call.data.toList.drop 0 = dktX5_call_0 := by decide +kernel
theorem dksX5_call_1 : cX5_call.data.toList.drop 23 = dktX5_call_1 := dk_seg dksX5_call_0 23 rfl rfl
theorem dksX5_call_2 : cX5_call.data.toList.drop 46 = dktX5_call_2 := dk_seg dksX5_call_1 23 rfl rfl
theorem dksX5_call_3 : cX5_call.data.toList.drop 69 = dktX5_call_3 := dk_seg dksX5_call_2 23 rfl rfl
theorem dksX5_call_4 : cX5_call.data.toList.drop 93 = dktX5_call_4 := dk_seg dksX5_call_3 24 rfl rfl
theorem dX5_call_0 : decode cX5_call 0 = .ok (.aload_n 0, 1) := dk_42 (dk_at dksX5_call_0 0 rfl rfl)
theorem dX5_call_1 : decode cX5_call 1 = .ok (.aload_n 0, 1) := dk_42 (dk_at dksX5_call_0 1 rfl rfl)
theorem dX5_call_2 : decode cX5_call 2 = .ok (.getfield 56, 3) := dk_180 0 56 (dk_at dksX5_call_0 2 rfl rfl)
theorem dX5_call_5 : decode cX5_call 5 = .ok (.invokevirtual 116, 3) := dk_182 0 116 (dk_at dksX5_call_0 5 rfl rfl)
theorem dX5_call_8 : decode cX5_call 8 = .ok (.istore_n 1, 1) := dk_60 (dk_at dksX5_call_0 8 rfl rfl)
theorem dX5_call_9 : decode cX5_call 9 = .ok (.aload_n 0, 1) := dk_42 (dk_at dksX5_call_0 9 rfl rfl)
theorem dX5_call_10 : decode cX5_call 10 = .ok (.dup, 1) := dk_89 (dk_at dksX5_call_0 10 rfl rfl)
theorem dX5_call_11 : decode cX5_call 11 = .ok (.getfield 53, 3) := dk_180 0 53 (dk_at dksX5_call_0 11 rfl rfl)
theorem dX5_call_14 : decode cX5_call 14 = .ok (.iload_n 1, 1) := dk_27 (dk_at dksX5_call_0 14 rfl rfl)
theorem dX5_call_15 : decode cX5_call 15 = .ok (.iconst (-1), 1) := dk_2 (dk_at dksX5_call_0 15 rfl rfl)
theorem dX5_call_16 : decode cX5_call 16 = .ok (.ixor, 1) := dk_130 (dk_at dksX5_call_0 16 rfl rfl)
theorem dX5_call_17 : decode cX5_call 17 = .ok (.iand, 1) := dk_126 (dk_at dksX5_call_0 17 rfl rfl)
theorem dX5_call_18 : decode cX5_call 18 = .ok (.putfield 53, 3) := dk_181 0 53 (dk_at dksX5_call_0 18 rfl rfl)
theorem dX5_call_21 : decode cX5_call 21 = .ok (.aload_n 0, 1) := dk_42 (dk_at dksX5_call_0 21 rfl rfl)
theorem dX5_call_22 : decode cX5_call 22 = .ok (.dup, 1) := dk_89 (dk_at dksX5_call_0 22 rfl rfl)
theorem dX5_call_23 : decode cX5_call 23 = .ok (.getfield 50, 3) := dk_180 0 50 (dk_at dksX5_call_1 0 rfl rfl)
theorem dX5_call_26 : decode cX5_call 26 = .ok (.iconst 1, 1) := dk_4 (dk_at dksX5_call_1 3 rfl rfl)
theorem dX5_call_27 : decode cX5_call 27 = .ok (.iadd, 1) := dk_96 (dk_at dksX5_call_1 4 rfl rfl)
theorem dX5_call_28 : decode cX5_call 28 = .ok (.putfield 50, 3) := dk_181 0 50 (dk_at dksX5_call_1 5 rfl rfl)
theorem dX5_call_31 : decode cX5_call 31 = .ok (.iconst 0, 1) := dk_3 (dk_at dksX5_call_1 8 rfl rfl)
theorem dX5_call_32 : decode cX5_call 32 = .ok (.istore_n 2, 1) := dk_61 (dk_at dksX5_call_1 9 rfl rfl)
theorem dX5_call_33 : decode cX5_call 33 = .ok (.iload_n 2, 1) := dk_28 (dk_at dksX5_call_1 10 rfl rfl)
theorem dX5_call_34 : decode cX5_call 34 = .ok (.aload_n 0, 1) := dk_42 (dk_at dksX5_call_1 11 rfl rfl)
theorem dX5_call_35 : decode cX5_call 35 = .ok (.getfield 47, 3) := dk_180 0 47 (dk_at dksX5_call_1 12 rfl rfl)
theorem dX5_call_38 : decode cX5_call 38 = .ok (.if_icmp .ge 55, 3) := dk_162 0 55 (dk_at dksX5_call_1 15 rfl rfl)
theorem dX5_call_41 : decode cX5_call 41 = .ok (.aload_n 0, 1) := dk_42 (dk_at dksX5_call_1 18 rfl rfl)
theorem dX5_call_42 : decode cX5_call 42 = .ok (.getfield 53, 3) := dk_180 0 53 (dk_at dksX5_call_1 19 rfl rfl)
theorem dX5_call_45 : decode cX5_call 45 = .ok (.iload_n 2, 1) := dk_28 (dk_at dksX5_call_1 22 rfl rfl)
theorem dX5_call_46 : decode cX5_call 46 = .ok (.invokestatic 77, 3) := dk_184 0 77 (dk_at dksX5_call_2 0 rfl rfl)
theorem dX5_call_49 : decode cX5_call 49 = .ok (.ifCond .ne 6, 3) := dk_154 0 6 (dk_at dksX5_call_2 3 rfl rfl)
theorem dX5_call_52 : decode cX5_call 52 = .ok (.goto 35, 3) := dk_167 0 35 (dk_at dksX5_call_2 6 rfl rfl)
theorem dX5_call_55 : decode cX5_call 55 = .ok (.aload_n 0, 1) := dk_42 (dk_at dksX5_call_2 9 rfl rfl)
theorem dX5_call_56 : decode cX5_call 56 = .ok (.getfield 32, 3) := dk_180 0 32 (dk_at dksX5_call_2 10 rfl rfl)
theorem dX5_call_59 : decode cX5_call 59 = .ok (.iload_n 2, 1) := dk_28 (dk_at dksX5_call_2 13 rfl rfl)
theorem dX5_call_60 : decode cX5_call 60 = .ok (.bipush 9, 2) := dk_16 9 (dk_at dksX5_call_2 14 rfl rfl)
theorem dX5_call_62 : decode cX5_call 62 = .ok (.aload_n 0, 1) := dk_42 (dk_at dksX5_call_2 16 rfl rfl)
theorem dX5_call_63 : decode cX5_call 63 = .ok (.getfield 32, 3) := dk_180 0 32 (dk_at dksX5_call_2 17 rfl rfl)
theorem dX5_call_66 : decode cX5_call 66 = .ok (.iload_n 2, 1) := dk_28 (dk_at dksX5_call_2 20 rfl rfl)
theorem dX5_call_67 : decode cX5_call 67 = .ok (.iaload, 1) := dk_46 (dk_at dksX5_call_2 21 rfl rfl)
theorem dX5_call_68 : decode cX5_call 68 = .ok (.aload_n 0, 1) := dk_42 (dk_at dksX5_call_2 22 rfl rfl)
theorem dX5_call_69 : decode cX5_call 69 = .ok (.getfield 15, 3) := dk_180 0 15 (dk_at dksX5_call_3 0 rfl rfl)
theorem dX5_call_72 : decode cX5_call 72 = .ok (.iadd, 1) := dk_96 (dk_at dksX5_call_3 3 rfl rfl)
theorem dX5_call_73 : decode cX5_call 73 = .ok (.invokestatic 119, 3) := dk_184 0 119 (dk_at dksX5_call_3 4 rfl rfl)
theorem dX5_call_76 : decode cX5_call 76 = .ok (.iastore, 1) := dk_79 (dk_at dksX5_call_3 7 rfl rfl)
theorem dX5_call_77 : decode cX5_call 77 = .ok (.aload_n 0, 1) := dk_42 (dk_at dksX5_call_3 8 rfl rfl)
theorem dX5_call_78 : decode cX5_call 78 = .ok (.getfield 41, 3) := dk_180 0 41 (dk_at dksX5_call_3 9 rfl rfl)
theorem dX5_call_81 : decode cX5_call 81 = .ok (.iload_n 2, 1) := dk_28 (dk_at dksX5_call_3 12 rfl rfl)
theorem dX5_call_82 : decode cX5_call 82 = .ok (.dup2, 1) := dk_92 (dk_at dksX5_call_3 13 rfl rfl)
theorem dX5_call_83 : decode cX5_call 83 = .ok (.iaload, 1) := dk_46 (dk_at dksX5_call_3 14 rfl rfl)
theorem dX5_call_84 : decode cX5_call 84 = .ok (.iconst 1, 1) := dk_4 (dk_at dksX5_call_3 15 rfl rfl)
theorem dX5_call_85 : decode cX5_call 85 = .ok (.iadd, 1) := dk_96 (dk_at dksX5_call_3 16 rfl rfl)
theorem dX5_call_86 : decode cX5_call 86 = .ok (.iastore, 1) := dk_79 (dk_at dksX5_call_3 17 rfl rfl)
theorem dX5_call_87 : decode cX5_call 87 = .ok (.iinc 2 1, 3) := dk_132 2 1 (dk_at dksX5_call_3 18 rfl rfl)
theorem dX5_call_90 : decode cX5_call 90 = .ok (.goto (-57), 3) := dk_167 255 199 (dk_at dksX5_call_3 21 rfl rfl)
theorem dX5_call_93 : decode cX5_call 93 = .ok (.iload_n 1, 1) := dk_27 (dk_at dksX5_call_4 0 rfl rfl)
theorem dX5_call_94 : decode cX5_call 94 = .ok (.ireturn, 1) := dk_172 (dk_at dksX5_call_4 1 rfl rfl)
abbrev cX5_outBy : ByteArray := prog_5_method_16_code
def yX5_outBy : MethodName := ⟨RX5, "outBy", "(I)I"⟩
def dkwX5_outBy_0 : List UInt8 := [42, 27, 3, 42, 180, 0, 9, 182, 0, 113, 172]
abbrev dktX5_outBy_0 : List UInt8 := dkwX5_outBy_0 ++ []
theorem dksX5_outBy_0 : cX5_outBy.data.toList.drop 0 = dktX5_outBy_0 := by decide +kernel
theorem dX5_outBy_0 : decode cX5_outBy 0 = .ok (.aload_n 0, 1) := dk_42 (dk_at dksX5_outBy_0 0 rfl rfl)
theorem dX5_outBy_1 : decode cX5_outBy 1 = .ok (.iload_n 1, 1) := dk_27 (dk_at dksX5_outBy_0 1 rfl rfl)
theorem dX5_outBy_2 : decode cX5_outBy 2 = .ok (.iconst 0, 1) := dk_3 (dk_at dksX5_outBy_0 2 rfl rfl)
theorem dX5_outBy_3 : decode cX5_outBy 3 = .ok (.aload_n 0, 1) := dk_42 (dk_at dksX5_outBy_0 3 rfl rfl)
theorem dX5_outBy_4 : decode cX5_outBy 4 = .ok (.getfield 9, 3) := dk_180 0 9 (dk_at dksX5_outBy_0 4 rfl rfl)
theorem dX5_outBy_7 : decode cX5_outBy 7 = .ok (.invokevirtual 113, 3) := dk_182 0 113 (dk_at dksX5_outBy_0 7 rfl rfl)
theorem dX5_outBy_10 : decode cX5_outBy 10 = .ok (.ireturn, 1) := dk_172 (dk_at dksX5_outBy_0 10 rfl rfl)
abbrev cX5_rises : ByteArray := prog_5_method_15_code
def yX5_rises : MethodName := ⟨RX5, "rises", "(III)I"⟩
def dkwX5_rises_2 : List UInt8 := [181, 0, 107, 167, 255, 215, 21, 4, 172]
abbrev dktX5_rises_2 : List UInt8 := dkwX5_rises_2 ++ []
def dkwX5_rises_1 : List UInt8 := [54, 5, 21, 5, 21, 4, 160, 0, 6, 21, 4, 172, 21, 5, 54, 4, 42, 89, 180, 0, 107, 4, 96]
abbrev dktX5_rises_1 : List UInt8 := dkwX5_rises_1 ++ dktX5_rises_2
def dkwX5_rises_0 : List UInt8 := [28, 54, 4, 42, 3, 181, 0, 107, 42, 180, 0, 107, 29, 162, 0, 39, 42, 27, 21, 4, 182, 0, 110]
abbrev dktX5_rises_0 : List UInt8 := dkwX5_rises_0 ++ dktX5_rises_1
theorem dksX5_rises_0 : cX5_rises.data.toList.drop 0 = dktX5_rises_0 := by decide +kernel
theorem dksX5_rises_1 : cX5_rises.data.toList.drop 23 = dktX5_rises_1 := dk_seg dksX5_rises_0 23 rfl rfl
theorem dksX5_rises_2 : cX5_rises.data.toList.drop 46 = dktX5_rises_2 := dk_seg dksX5_rises_1 23 rfl rfl
theorem dX5_rises_0 : decode cX5_rises 0 = .ok (.iload_n 2, 1) := dk_28 (dk_at dksX5_rises_0 0 rfl rfl)
theorem dX5_rises_1 : decode cX5_rises 1 = .ok (.istore 4, 2) := dk_54 4 (dk_at dksX5_rises_0 1 rfl rfl)
theorem dX5_rises_3 : decode cX5_rises 3 = .ok (.aload_n 0, 1) := dk_42 (dk_at dksX5_rises_0 3 rfl rfl)
theorem dX5_rises_4 : decode cX5_rises 4 = .ok (.iconst 0, 1) := dk_3 (dk_at dksX5_rises_0 4 rfl rfl)
theorem dX5_rises_5 : decode cX5_rises 5 = .ok (.putfield 107, 3) := dk_181 0 107 (dk_at dksX5_rises_0 5 rfl rfl)
theorem dX5_rises_8 : decode cX5_rises 8 = .ok (.aload_n 0, 1) := dk_42 (dk_at dksX5_rises_0 8 rfl rfl)
theorem dX5_rises_9 : decode cX5_rises 9 = .ok (.getfield 107, 3) := dk_180 0 107 (dk_at dksX5_rises_0 9 rfl rfl)
theorem dX5_rises_12 : decode cX5_rises 12 = .ok (.iload_n 3, 1) := dk_29 (dk_at dksX5_rises_0 12 rfl rfl)
theorem dX5_rises_13 : decode cX5_rises 13 = .ok (.if_icmp .ge 39, 3) := dk_162 0 39 (dk_at dksX5_rises_0 13 rfl rfl)
theorem dX5_rises_16 : decode cX5_rises 16 = .ok (.aload_n 0, 1) := dk_42 (dk_at dksX5_rises_0 16 rfl rfl)
theorem dX5_rises_17 : decode cX5_rises 17 = .ok (.iload_n 1, 1) := dk_27 (dk_at dksX5_rises_0 17 rfl rfl)
theorem dX5_rises_18 : decode cX5_rises 18 = .ok (.iload 4, 2) := dk_21 4 (dk_at dksX5_rises_0 18 rfl rfl)
theorem dX5_rises_20 : decode cX5_rises 20 = .ok (.invokevirtual 110, 3) := dk_182 0 110 (dk_at dksX5_rises_0 20 rfl rfl)
theorem dX5_rises_23 : decode cX5_rises 23 = .ok (.istore 5, 2) := dk_54 5 (dk_at dksX5_rises_1 0 rfl rfl)
theorem dX5_rises_25 : decode cX5_rises 25 = .ok (.iload 5, 2) := dk_21 5 (dk_at dksX5_rises_1 2 rfl rfl)
theorem dX5_rises_27 : decode cX5_rises 27 = .ok (.iload 4, 2) := dk_21 4 (dk_at dksX5_rises_1 4 rfl rfl)
theorem dX5_rises_29 : decode cX5_rises 29 = .ok (.if_icmp .ne 6, 3) := dk_160 0 6 (dk_at dksX5_rises_1 6 rfl rfl)
theorem dX5_rises_32 : decode cX5_rises 32 = .ok (.iload 4, 2) := dk_21 4 (dk_at dksX5_rises_1 9 rfl rfl)
theorem dX5_rises_34 : decode cX5_rises 34 = .ok (.ireturn, 1) := dk_172 (dk_at dksX5_rises_1 11 rfl rfl)
theorem dX5_rises_35 : decode cX5_rises 35 = .ok (.iload 5, 2) := dk_21 5 (dk_at dksX5_rises_1 12 rfl rfl)
theorem dX5_rises_37 : decode cX5_rises 37 = .ok (.istore 4, 2) := dk_54 4 (dk_at dksX5_rises_1 14 rfl rfl)
theorem dX5_rises_39 : decode cX5_rises 39 = .ok (.aload_n 0, 1) := dk_42 (dk_at dksX5_rises_1 16 rfl rfl)
theorem dX5_rises_40 : decode cX5_rises 40 = .ok (.dup, 1) := dk_89 (dk_at dksX5_rises_1 17 rfl rfl)
theorem dX5_rises_41 : decode cX5_rises 41 = .ok (.getfield 107, 3) := dk_180 0 107 (dk_at dksX5_rises_1 18 rfl rfl)
theorem dX5_rises_44 : decode cX5_rises 44 = .ok (.iconst 1, 1) := dk_4 (dk_at dksX5_rises_1 21 rfl rfl)
theorem dX5_rises_45 : decode cX5_rises 45 = .ok (.iadd, 1) := dk_96 (dk_at dksX5_rises_1 22 rfl rfl)
theorem dX5_rises_46 : decode cX5_rises 46 = .ok (.putfield 107, 3) := dk_181 0 107 (dk_at dksX5_rises_2 0 rfl rfl)
theorem dX5_rises_49 : decode cX5_rises 49 = .ok (.goto (-41), 3) := dk_167 255 215 (dk_at dksX5_rises_2 3 rfl rfl)
theorem dX5_rises_52 : decode cX5_rises 52 = .ok (.iload 4, 2) := dk_21 4 (dk_at dksX5_rises_2 6 rfl rfl)
theorem dX5_rises_54 : decode cX5_rises 54 = .ok (.ireturn, 1) := dk_172 (dk_at dksX5_rises_2 8 rfl rfl)
abbrev cX5_round : ByteArray := prog_5_method_14_code
def yX5_round : MethodName := ⟨RX5, "round", "(II)I"⟩
def dkwX5_round_2 : List UInt8 := [4, 21, 4, 120, 128, 62, 132, 4, 1, 167, 255, 205, 29, 172]
abbrev dktX5_round_2 : List UInt8 := dkwX5_round_2 ++ []
def dkwX5_round_1 : List UInt8 := [153, 0, 30, 28, 21, 4, 184, 0, 77, 154, 0, 21, 42, 21, 4, 27, 28, 182, 0, 103, 153, 0, 10, 29]
abbrev dktX5_round_1 : List UInt8 := dkwX5_round_1 ++ dktX5_round_2
def dkwX5_round_0 : List UInt8 := [28, 62, 3, 54, 4, 21, 4, 42, 180, 0, 47, 162, 0, 48, 42, 180, 0, 53, 21, 4, 184, 0, 77]
abbrev dktX5_round_0 : List UInt8 := dkwX5_round_0 ++ dktX5_round_1
theorem dksX5_round_0 : cX5_round.data.toList.drop 0 = dktX5_round_0 := by decide +kernel
theorem dksX5_round_1 : cX5_round.data.toList.drop 23 = dktX5_round_1 := dk_seg dksX5_round_0 23 rfl rfl
theorem dksX5_round_2 : cX5_round.data.toList.drop 47 = dktX5_round_2 := dk_seg dksX5_round_1 24 rfl rfl
theorem dX5_round_0 : decode cX5_round 0 = .ok (.iload_n 2, 1) := dk_28 (dk_at dksX5_round_0 0 rfl rfl)
theorem dX5_round_1 : decode cX5_round 1 = .ok (.istore_n 3, 1) := dk_62 (dk_at dksX5_round_0 1 rfl rfl)
theorem dX5_round_2 : decode cX5_round 2 = .ok (.iconst 0, 1) := dk_3 (dk_at dksX5_round_0 2 rfl rfl)
theorem dX5_round_3 : decode cX5_round 3 = .ok (.istore 4, 2) := dk_54 4 (dk_at dksX5_round_0 3 rfl rfl)
theorem dX5_round_5 : decode cX5_round 5 = .ok (.iload 4, 2) := dk_21 4 (dk_at dksX5_round_0 5 rfl rfl)
theorem dX5_round_7 : decode cX5_round 7 = .ok (.aload_n 0, 1) := dk_42 (dk_at dksX5_round_0 7 rfl rfl)
theorem dX5_round_8 : decode cX5_round 8 = .ok (.getfield 47, 3) := dk_180 0 47 (dk_at dksX5_round_0 8 rfl rfl)
theorem dX5_round_11 : decode cX5_round 11 = .ok (.if_icmp .ge 48, 3) := dk_162 0 48 (dk_at dksX5_round_0 11 rfl rfl)
theorem dX5_round_14 : decode cX5_round 14 = .ok (.aload_n 0, 1) := dk_42 (dk_at dksX5_round_0 14 rfl rfl)
theorem dX5_round_15 : decode cX5_round 15 = .ok (.getfield 53, 3) := dk_180 0 53 (dk_at dksX5_round_0 15 rfl rfl)
theorem dX5_round_18 : decode cX5_round 18 = .ok (.iload 4, 2) := dk_21 4 (dk_at dksX5_round_0 18 rfl rfl)
theorem dX5_round_20 : decode cX5_round 20 = .ok (.invokestatic 77, 3) := dk_184 0 77 (dk_at dksX5_round_0 20 rfl rfl)
theorem dX5_round_23 : decode cX5_round 23 = .ok (.ifCond .eq 30, 3) := dk_153 0 30 (dk_at dksX5_round_1 0 rfl rfl)
theorem dX5_round_26 : decode cX5_round 26 = .ok (.iload_n 2, 1) := dk_28 (dk_at dksX5_round_1 3 rfl rfl)
theorem dX5_round_27 : decode cX5_round 27 = .ok (.iload 4, 2) := dk_21 4 (dk_at dksX5_round_1 4 rfl rfl)
theorem dX5_round_29 : decode cX5_round 29 = .ok (.invokestatic 77, 3) := dk_184 0 77 (dk_at dksX5_round_1 6 rfl rfl)
theorem dX5_round_32 : decode cX5_round 32 = .ok (.ifCond .ne 21, 3) := dk_154 0 21 (dk_at dksX5_round_1 9 rfl rfl)
theorem dX5_round_35 : decode cX5_round 35 = .ok (.aload_n 0, 1) := dk_42 (dk_at dksX5_round_1 12 rfl rfl)
theorem dX5_round_36 : decode cX5_round 36 = .ok (.iload 4, 2) := dk_21 4 (dk_at dksX5_round_1 13 rfl rfl)
theorem dX5_round_38 : decode cX5_round 38 = .ok (.iload_n 1, 1) := dk_27 (dk_at dksX5_round_1 15 rfl rfl)
theorem dX5_round_39 : decode cX5_round 39 = .ok (.iload_n 2, 1) := dk_28 (dk_at dksX5_round_1 16 rfl rfl)
theorem dX5_round_40 : decode cX5_round 40 = .ok (.invokevirtual 103, 3) := dk_182 0 103 (dk_at dksX5_round_1 17 rfl rfl)
theorem dX5_round_43 : decode cX5_round 43 = .ok (.ifCond .eq 10, 3) := dk_153 0 10 (dk_at dksX5_round_1 20 rfl rfl)
theorem dX5_round_46 : decode cX5_round 46 = .ok (.iload_n 3, 1) := dk_29 (dk_at dksX5_round_1 23 rfl rfl)
theorem dX5_round_47 : decode cX5_round 47 = .ok (.iconst 1, 1) := dk_4 (dk_at dksX5_round_2 0 rfl rfl)
theorem dX5_round_48 : decode cX5_round 48 = .ok (.iload 4, 2) := dk_21 4 (dk_at dksX5_round_2 1 rfl rfl)
theorem dX5_round_50 : decode cX5_round 50 = .ok (.ishl, 1) := dk_120 (dk_at dksX5_round_2 3 rfl rfl)
theorem dX5_round_51 : decode cX5_round 51 = .ok (.ior, 1) := dk_128 (dk_at dksX5_round_2 4 rfl rfl)
theorem dX5_round_52 : decode cX5_round 52 = .ok (.istore_n 3, 1) := dk_62 (dk_at dksX5_round_2 5 rfl rfl)
theorem dX5_round_53 : decode cX5_round 53 = .ok (.iinc 4 1, 3) := dk_132 4 1 (dk_at dksX5_round_2 6 rfl rfl)
theorem dX5_round_56 : decode cX5_round 56 = .ok (.goto (-51), 3) := dk_167 255 205 (dk_at dksX5_round_2 9 rfl rfl)
theorem dX5_round_59 : decode cX5_round 59 = .ok (.iload_n 3, 1) := dk_29 (dk_at dksX5_round_2 12 rfl rfl)
theorem dX5_round_60 : decode cX5_round 60 = .ok (.ireturn, 1) := dk_172 (dk_at dksX5_round_2 13 rfl rfl)
abbrev cX5_dares : ByteArray := prog_5_method_13_code
def yX5_dares : MethodName := ⟨RX5, "dares", "(III)Z"⟩
def dkwX5_dares_1 : List UInt8 := [172]
abbrev dktX5_dares_1 : List UInt8 := dkwX5_dares_1 ++ []
def dkwX5_dares_0 : List UInt8 := [42, 27, 182, 0, 91, 29, 126, 184, 0, 95, 42, 27, 28, 182, 0, 100, 161, 0, 7, 4, 167, 0, 4, 3]
abbrev dktX5_dares_0 : List UInt8 := dkwX5_dares_0 ++ dktX5_dares_1
theorem dksX5_dares_0 : cX5_dares.data.toList.drop 0 = dktX5_dares_0 := by decide +kernel
theorem dksX5_dares_1 : cX5_dares.data.toList.drop 24 = dktX5_dares_1 := dk_seg dksX5_dares_0 24 rfl rfl
theorem dX5_dares_0 : decode cX5_dares 0 = .ok (.aload_n 0, 1) := dk_42 (dk_at dksX5_dares_0 0 rfl rfl)
theorem dX5_dares_1 : decode cX5_dares 1 = .ok (.iload_n 1, 1) := dk_27 (dk_at dksX5_dares_0 1 rfl rfl)
theorem dX5_dares_2 : decode cX5_dares 2 = .ok (.invokevirtual 91, 3) := dk_182 0 91 (dk_at dksX5_dares_0 2 rfl rfl)
theorem dX5_dares_5 : decode cX5_dares 5 = .ok (.iload_n 3, 1) := dk_29 (dk_at dksX5_dares_0 5 rfl rfl)
theorem dX5_dares_6 : decode cX5_dares 6 = .ok (.iand, 1) := dk_126 (dk_at dksX5_dares_0 6 rfl rfl)
theorem dX5_dares_7 : decode cX5_dares 7 = .ok (.invokestatic 95, 3) := dk_184 0 95 (dk_at dksX5_dares_0 7 rfl rfl)
theorem dX5_dares_10 : decode cX5_dares 10 = .ok (.aload_n 0, 1) := dk_42 (dk_at dksX5_dares_0 10 rfl rfl)
theorem dX5_dares_11 : decode cX5_dares 11 = .ok (.iload_n 1, 1) := dk_27 (dk_at dksX5_dares_0 11 rfl rfl)
theorem dX5_dares_12 : decode cX5_dares 12 = .ok (.iload_n 2, 1) := dk_28 (dk_at dksX5_dares_0 12 rfl rfl)
theorem dX5_dares_13 : decode cX5_dares 13 = .ok (.invokevirtual 100, 3) := dk_182 0 100 (dk_at dksX5_dares_0 13 rfl rfl)
theorem dX5_dares_16 : decode cX5_dares 16 = .ok (.if_icmp .lt 7, 3) := dk_161 0 7 (dk_at dksX5_dares_0 16 rfl rfl)
theorem dX5_dares_19 : decode cX5_dares 19 = .ok (.iconst 1, 1) := dk_4 (dk_at dksX5_dares_0 19 rfl rfl)
theorem dX5_dares_20 : decode cX5_dares 20 = .ok (.goto 4, 3) := dk_167 0 4 (dk_at dksX5_dares_0 20 rfl rfl)
theorem dX5_dares_23 : decode cX5_dares 23 = .ok (.iconst 0, 1) := dk_3 (dk_at dksX5_dares_0 23 rfl rfl)
theorem dX5_dares_24 : decode cX5_dares 24 = .ok (.ireturn, 1) := dk_172 (dk_at dksX5_dares_1 0 rfl rfl)
abbrev cX5_rest : ByteArray := prog_5_method_17_code
def yX5_rest : MethodName := ⟨RX5, "rest", "(II)I"⟩
def dkwX5_rest_0 : List UInt8 := [42, 27, 28, 16, 9, 182, 0, 113, 172]
abbrev dktX5_rest_0 : List UInt8 := dkwX5_rest_0 ++ []
theorem dksX5_rest_0 : cX5_rest.data.toList.drop 0 = dktX5_rest_0 := by decide +kernel
theorem dX5_rest_0 : decode cX5_rest 0 = .ok (.aload_n 0, 1) := dk_42 (dk_at dksX5_rest_0 0 rfl rfl)
theorem dX5_rest_1 : decode cX5_rest 1 = .ok (.iload_n 1, 1) := dk_27 (dk_at dksX5_rest_0 1 rfl rfl)
theorem dX5_rest_2 : decode cX5_rest 2 = .ok (.iload_n 2, 1) := dk_28 (dk_at dksX5_rest_0 2 rfl rfl)
theorem dX5_rest_3 : decode cX5_rest 3 = .ok (.bipush 9, 2) := dk_16 9 (dk_at dksX5_rest_0 3 rfl rfl)
theorem dX5_rest_5 : decode cX5_rest 5 = .ok (.invokevirtual 113, 3) := dk_182 0 113 (dk_at dksX5_rest_0 5 rfl rfl)
theorem dX5_rest_8 : decode cX5_rest 8 = .ok (.ireturn, 1) := dk_172 (dk_at dksX5_rest_0 8 rfl rfl)
abbrev cX5_atRest : ByteArray := prog_5_method_19_code
def yX5_atRest : MethodName := ⟨RX5, "atRest", "(II)Z"⟩
def dkwX5_atRest_1 : List UInt8 := [184, 0, 77, 42, 29, 28, 27, 182, 0, 103, 159, 0, 5, 3, 172, 132, 3, 1, 167, 255, 217, 4, 172]
abbrev dktX5_atRest_1 : List UInt8 := dkwX5_atRest_1 ++ []
def dkwX5_atRest_0 : List UInt8 := [3, 62, 29, 42, 180, 0, 47, 162, 0, 37, 42, 180, 0, 53, 29, 184, 0, 77, 153, 0, 20, 27, 29]
abbrev dktX5_atRest_0 : List UInt8 := dkwX5_atRest_0 ++ dktX5_atRest_1
theorem dksX5_atRest_0 : cX5_atRest.data.toList.drop 0 = dktX5_atRest_0 := by decide +kernel
theorem dksX5_atRest_1 : cX5_atRest.data.toList.drop 23 = dktX5_atRest_1 := dk_seg dksX5_atRest_0 23 rfl rfl
theorem dX5_atRest_0 : decode cX5_atRest 0 = .ok (.iconst 0, 1) := dk_3 (dk_at dksX5_atRest_0 0 rfl rfl)
theorem dX5_atRest_1 : decode cX5_atRest 1 = .ok (.istore_n 3, 1) := dk_62 (dk_at dksX5_atRest_0 1 rfl rfl)
theorem dX5_atRest_2 : decode cX5_atRest 2 = .ok (.iload_n 3, 1) := dk_29 (dk_at dksX5_atRest_0 2 rfl rfl)
theorem dX5_atRest_3 : decode cX5_atRest 3 = .ok (.aload_n 0, 1) := dk_42 (dk_at dksX5_atRest_0 3 rfl rfl)
theorem dX5_atRest_4 : decode cX5_atRest 4 = .ok (.getfield 47, 3) := dk_180 0 47 (dk_at dksX5_atRest_0 4 rfl rfl)
theorem dX5_atRest_7 : decode cX5_atRest 7 = .ok (.if_icmp .ge 37, 3) := dk_162 0 37 (dk_at dksX5_atRest_0 7 rfl rfl)
theorem dX5_atRest_10 : decode cX5_atRest 10 = .ok (.aload_n 0, 1) := dk_42 (dk_at dksX5_atRest_0 10 rfl rfl)
theorem dX5_atRest_11 : decode cX5_atRest 11 = .ok (.getfield 53, 3) := dk_180 0 53 (dk_at dksX5_atRest_0 11 rfl rfl)
theorem dX5_atRest_14 : decode cX5_atRest 14 = .ok (.iload_n 3, 1) := dk_29 (dk_at dksX5_atRest_0 14 rfl rfl)
theorem dX5_atRest_15 : decode cX5_atRest 15 = .ok (.invokestatic 77, 3) := dk_184 0 77 (dk_at dksX5_atRest_0 15 rfl rfl)
theorem dX5_atRest_18 : decode cX5_atRest 18 = .ok (.ifCond .eq 20, 3) := dk_153 0 20 (dk_at dksX5_atRest_0 18 rfl rfl)
theorem dX5_atRest_21 : decode cX5_atRest 21 = .ok (.iload_n 1, 1) := dk_27 (dk_at dksX5_atRest_0 21 rfl rfl)
theorem dX5_atRest_22 : decode cX5_atRest 22 = .ok (.iload_n 3, 1) := dk_29 (dk_at dksX5_atRest_0 22 rfl rfl)
theorem dX5_atRest_23 : decode cX5_atRest 23 = .ok (.invokestatic 77, 3) := dk_184 0 77 (dk_at dksX5_atRest_1 0 rfl rfl)
theorem dX5_atRest_26 : decode cX5_atRest 26 = .ok (.aload_n 0, 1) := dk_42 (dk_at dksX5_atRest_1 3 rfl rfl)
theorem dX5_atRest_27 : decode cX5_atRest 27 = .ok (.iload_n 3, 1) := dk_29 (dk_at dksX5_atRest_1 4 rfl rfl)
theorem dX5_atRest_28 : decode cX5_atRest 28 = .ok (.iload_n 2, 1) := dk_28 (dk_at dksX5_atRest_1 5 rfl rfl)
theorem dX5_atRest_29 : decode cX5_atRest 29 = .ok (.iload_n 1, 1) := dk_27 (dk_at dksX5_atRest_1 6 rfl rfl)
theorem dX5_atRest_30 : decode cX5_atRest 30 = .ok (.invokevirtual 103, 3) := dk_182 0 103 (dk_at dksX5_atRest_1 7 rfl rfl)
theorem dX5_atRest_33 : decode cX5_atRest 33 = .ok (.if_icmp .eq 5, 3) := dk_159 0 5 (dk_at dksX5_atRest_1 10 rfl rfl)
theorem dX5_atRest_36 : decode cX5_atRest 36 = .ok (.iconst 0, 1) := dk_3 (dk_at dksX5_atRest_1 13 rfl rfl)
theorem dX5_atRest_37 : decode cX5_atRest 37 = .ok (.ireturn, 1) := dk_172 (dk_at dksX5_atRest_1 14 rfl rfl)
theorem dX5_atRest_38 : decode cX5_atRest 38 = .ok (.iinc 3 1, 3) := dk_132 3 1 (dk_at dksX5_atRest_1 15 rfl rfl)
theorem dX5_atRest_41 : decode cX5_atRest 41 = .ok (.goto (-39), 3) := dk_167 255 217 (dk_at dksX5_atRest_1 18 rfl rfl)
theorem dX5_atRest_44 : decode cX5_atRest 44 = .ok (.iconst 1, 1) := dk_4 (dk_at dksX5_atRest_1 21 rfl rfl)
theorem dX5_atRest_45 : decode cX5_atRest 45 = .ok (.ireturn, 1) := dk_172 (dk_at dksX5_atRest_1 22 rfl rfl)
abbrev cX5_out : ByteArray := prog_5_method_8_code
def yX5_out : MethodName := ⟨RX5, "out", "()I"⟩
def dkwX5_out_0 : List UInt8 := [42, 182, 0, 73, 42, 180, 0, 53, 2, 130, 126, 172]
abbrev dktX5_out_0 : List UInt8 := dkwX5_out_0 ++ []
theorem dksX5_out_0 : cX5_out.data.toList.drop 0 = dktX5_out_0 := by decide +kernel
theorem dX5_out_0 : decode cX5_out 0 = .ok (.aload_n 0, 1) := dk_42 (dk_at dksX5_out_0 0 rfl rfl)
theorem dX5_out_1 : decode cX5_out 1 = .ok (.invokevirtual 73, 3) := dk_182 0 73 (dk_at dksX5_out_0 1 rfl rfl)
theorem dX5_out_4 : decode cX5_out 4 = .ok (.aload_n 0, 1) := dk_42 (dk_at dksX5_out_0 4 rfl rfl)
theorem dX5_out_5 : decode cX5_out 5 = .ok (.getfield 53, 3) := dk_180 0 53 (dk_at dksX5_out_0 5 rfl rfl)
theorem dX5_out_8 : decode cX5_out 8 = .ok (.iconst (-1), 1) := dk_2 (dk_at dksX5_out_0 8 rfl rfl)
theorem dX5_out_9 : decode cX5_out 9 = .ok (.ixor, 1) := dk_130 (dk_at dksX5_out_0 9 rfl rfl)
theorem dX5_out_10 : decode cX5_out 10 = .ok (.iand, 1) := dk_126 (dk_at dksX5_out_0 10 rfl rfl)
theorem dX5_out_11 : decode cX5_out 11 = .ok (.ireturn, 1) := dk_172 (dk_at dksX5_out_0 11 rfl rfl)
theorem q148 : (Jvm.Cond.initialized "IslandCall$Boat") ∈ lw_all := lw_g (lw_at lw_m1 8 rfl) rfl
theorem q285 : (Jvm.Cond.instantiable "IslandCall$Boat" (16 : Nat)) ∈ lw_all := lw_g (lw_at lw_m1 145 rfl) rfl
theorem q287 : (Jvm.Cond.instanceMethod ({ cls := "IslandCall$Boat", name := "<init>", desc := "()V" } : Jvm.MethodName)) ∈ lw_all := lw_g (lw_at lw_m1 147 rfl) rfl
theorem q288 : (Jvm.Cond.code ({ cls := "IslandCall$Boat", name := "<init>", desc := "()V" } : Jvm.MethodName) prog_5_method_1_code (1 : Nat) (Option.none : Option Jvm.ClassFile.FieldType)) ∈ lw_all := lw_g (lw_at lw_m1 148 rfl) rfl
theorem q289 : (Jvm.Cond.methodLink "IslandCall$Boat" (3 : Nat) ({ cls := "java/lang/Object", name := "<init>", desc := "()V" } : Jvm.MethodName)) ∈ lw_all := lw_g (lw_at lw_m1 149 rfl) rfl
theorem q290 : (Jvm.Cond.fieldLink "IslandCall$Boat" (9 : Nat) "IslandCall$Boat" "plank" "I") ∈ lw_all := lw_g (lw_at lw_m1 150 rfl) rfl
theorem q293 : (Jvm.Cond.fieldLink "IslandCall$Boat" (15 : Nat) "IslandCall$Boat" "habit" "I") ∈ lw_all := lw_g (lw_at lw_m1 153 rfl) rfl
theorem q296 : (Jvm.Cond.fieldLink "IslandCall$Boat" (18 : Nat) "IslandCall$Boat" "odds" "I") ∈ lw_all := lw_g (lw_at lw_m1 156 rfl) rfl
theorem q300 : (Jvm.Cond.fieldLink "IslandCall$Boat" (44 : Nat) "IslandCall$Boat" "omens" "I") ∈ lw_all := lw_g (lw_at lw_m1 160 rfl) rfl
theorem q303 : (Jvm.Cond.fieldLink "IslandCall$Boat" (47 : Nat) "IslandCall$Boat" "people" "I") ∈ lw_all := lw_g (lw_at lw_m1 163 rfl) rfl
theorem q306 : (Jvm.Cond.fieldLink "IslandCall$Boat" (50 : Nat) "IslandCall$Boat" "calls" "I") ∈ lw_all := lw_g (lw_at lw_m1 166 rfl) rfl
theorem q310 : (Jvm.Cond.fieldLink "IslandCall$Boat" (53 : Nat) "IslandCall$Boat" "aboard" "I") ∈ lw_all := lw_g (lw_at lw_m1 170 rfl) rfl
theorem q315 : (Jvm.Cond.fieldLink "IslandCall$Boat" (56 : Nat) "IslandCall$Boat" "shown" "I") ∈ lw_all := lw_g (lw_at lw_m1 175 rfl) rfl
theorem q319 : (Jvm.Cond.fieldLink "IslandCall$Boat" (21 : Nat) "IslandCall$Boat" "omenNames" "[J") ∈ lw_all := lw_g (lw_at lw_m1 179 rfl) rfl
theorem q321 : (Jvm.Cond.fieldLink "IslandCall$Boat" (25 : Nat) "IslandCall$Boat" "personNames" "[J") ∈ lw_all := lw_g (lw_at lw_m1 181 rfl) rfl
theorem q323 : (Jvm.Cond.fieldLink "IslandCall$Boat" (28 : Nat) "IslandCall$Boat" "pull" "[I") ∈ lw_all := lw_g (lw_at lw_m1 183 rfl) rfl
theorem q326 : (Jvm.Cond.fieldLink "IslandCall$Boat" (32 : Nat) "IslandCall$Boat" "hold" "[I") ∈ lw_all := lw_g (lw_at lw_m1 186 rfl) rfl
theorem q330 : (Jvm.Cond.fieldLink "IslandCall$Boat" (35 : Nat) "IslandCall$Boat" "excused" "[I") ∈ lw_all := lw_g (lw_at lw_m1 190 rfl) rfl
theorem q333 : (Jvm.Cond.fieldLink "IslandCall$Boat" (38 : Nat) "IslandCall$Boat" "blind" "[I") ∈ lw_all := lw_g (lw_at lw_m1 193 rfl) rfl
theorem q336 : (Jvm.Cond.fieldLink "IslandCall$Boat" (41 : Nat) "IslandCall$Boat" "sat" "[I") ∈ lw_all := lw_g (lw_at lw_m1 196 rfl) rfl
theorem q338 : (Jvm.Cond.fieldLink "IslandCall$Boat" (107 : Nat) "IslandCall$Boat" "roundMany" "I") ∈ lw_all := lw_g (lw_at lw_m1 198 rfl) rfl
theorem q340 : (Jvm.Cond.lays "IslandCall$Boat" "IslandCall$Boat" "plank" "I") ∈ lw_all := lw_g (lw_at lw_m1 200 rfl) rfl
theorem q341 : (Jvm.Cond.soleField "IslandCall$Boat" "plank") ∈ lw_all := lw_g (lw_at lw_m1 201 rfl) rfl
theorem q342 : (Jvm.Cond.lays "IslandCall$Boat" "IslandCall$Boat" "habit" "I") ∈ lw_all := lw_g (lw_at lw_m1 202 rfl) rfl
theorem q343 : (Jvm.Cond.soleField "IslandCall$Boat" "habit") ∈ lw_all := lw_g (lw_at lw_m1 203 rfl) rfl
theorem q344 : (Jvm.Cond.lays "IslandCall$Boat" "IslandCall$Boat" "odds" "I") ∈ lw_all := lw_g (lw_at lw_m1 204 rfl) rfl
theorem q345 : (Jvm.Cond.soleField "IslandCall$Boat" "odds") ∈ lw_all := lw_g (lw_at lw_m1 205 rfl) rfl
theorem q346 : (Jvm.Cond.lays "IslandCall$Boat" "IslandCall$Boat" "omens" "I") ∈ lw_all := lw_g (lw_at lw_m1 206 rfl) rfl
theorem q347 : (Jvm.Cond.soleField "IslandCall$Boat" "omens") ∈ lw_all := lw_g (lw_at lw_m1 207 rfl) rfl
theorem q348 : (Jvm.Cond.lays "IslandCall$Boat" "IslandCall$Boat" "people" "I") ∈ lw_all := lw_g (lw_at lw_m1 208 rfl) rfl
theorem q349 : (Jvm.Cond.soleField "IslandCall$Boat" "people") ∈ lw_all := lw_g (lw_at lw_m1 209 rfl) rfl
theorem q350 : (Jvm.Cond.lays "IslandCall$Boat" "IslandCall$Boat" "calls" "I") ∈ lw_all := lw_g (lw_at lw_m1 210 rfl) rfl
theorem q351 : (Jvm.Cond.soleField "IslandCall$Boat" "calls") ∈ lw_all := lw_g (lw_at lw_m1 211 rfl) rfl
theorem q352 : (Jvm.Cond.lays "IslandCall$Boat" "IslandCall$Boat" "aboard" "I") ∈ lw_all := lw_g (lw_at lw_m1 212 rfl) rfl
theorem q353 : (Jvm.Cond.soleField "IslandCall$Boat" "aboard") ∈ lw_all := lw_g (lw_at lw_m1 213 rfl) rfl
theorem q354 : (Jvm.Cond.lays "IslandCall$Boat" "IslandCall$Boat" "shown" "I") ∈ lw_all := lw_g (lw_at lw_m1 214 rfl) rfl
theorem q355 : (Jvm.Cond.soleField "IslandCall$Boat" "shown") ∈ lw_all := lw_g (lw_at lw_m1 215 rfl) rfl
theorem q356 : (Jvm.Cond.lays "IslandCall$Boat" "IslandCall$Boat" "omenNames" "[J") ∈ lw_all := lw_g (lw_at lw_m1 216 rfl) rfl
theorem q357 : (Jvm.Cond.soleField "IslandCall$Boat" "omenNames") ∈ lw_all := lw_g (lw_at lw_m1 217 rfl) rfl
theorem q358 : (Jvm.Cond.lays "IslandCall$Boat" "IslandCall$Boat" "personNames" "[J") ∈ lw_all := lw_g (lw_at lw_m1 218 rfl) rfl
theorem q359 : (Jvm.Cond.soleField "IslandCall$Boat" "personNames") ∈ lw_all := lw_g (lw_at lw_m1 219 rfl) rfl
theorem q360 : (Jvm.Cond.laysFinal "IslandCall$Boat" "IslandCall$Boat" "pull" "[I") ∈ lw_all := lw_g (lw_at lw_m1 220 rfl) rfl
theorem q361 : (Jvm.Cond.soleField "IslandCall$Boat" "pull") ∈ lw_all := lw_g (lw_at lw_m1 221 rfl) rfl
theorem q362 : (Jvm.Cond.laysFinal "IslandCall$Boat" "IslandCall$Boat" "hold" "[I") ∈ lw_all := lw_g (lw_at lw_m1 222 rfl) rfl
theorem q363 : (Jvm.Cond.soleField "IslandCall$Boat" "hold") ∈ lw_all := lw_g (lw_at lw_m1 223 rfl) rfl
theorem q364 : (Jvm.Cond.laysFinal "IslandCall$Boat" "IslandCall$Boat" "excused" "[I") ∈ lw_all := lw_g (lw_at lw_m1 224 rfl) rfl
theorem q365 : (Jvm.Cond.soleField "IslandCall$Boat" "excused") ∈ lw_all := lw_g (lw_at lw_m1 225 rfl) rfl
theorem q366 : (Jvm.Cond.laysFinal "IslandCall$Boat" "IslandCall$Boat" "blind" "[I") ∈ lw_all := lw_g (lw_at lw_m1 226 rfl) rfl
theorem q367 : (Jvm.Cond.soleField "IslandCall$Boat" "blind") ∈ lw_all := lw_g (lw_at lw_m1 227 rfl) rfl
theorem q368 : (Jvm.Cond.laysFinal "IslandCall$Boat" "IslandCall$Boat" "sat" "[I") ∈ lw_all := lw_g (lw_at lw_m1 228 rfl) rfl
theorem q369 : (Jvm.Cond.soleField "IslandCall$Boat" "sat") ∈ lw_all := lw_g (lw_at lw_m1 229 rfl) rfl
theorem q370 : (Jvm.Cond.lays "IslandCall$Boat" "IslandCall$Boat" "roundMany" "I") ∈ lw_all := lw_g (lw_at lw_m1 230 rfl) rfl
theorem q371 : (Jvm.Cond.soleField "IslandCall$Boat" "roundMany") ∈ lw_all := lw_g (lw_at lw_m1 231 rfl) rfl
theorem q372 : (Jvm.Cond.superclass "IslandCall$Boat" "java/lang/Object") ∈ lw_all := lw_g (lw_at lw_m1 232 rfl) rfl
theorem q746 : (Jvm.Cond.instanceMethod ({ cls := "IslandCall$Boat", name := "omenNamed", desc := "(J)I" } : Jvm.MethodName)) ∈ lw_all := lw_g (lw_at lw_m3 126 rfl) rfl
theorem q747 : (Jvm.Cond.selects "IslandCall$Boat" ({ cls := "IslandCall$Boat", name := "omenNamed", desc := "(J)I" } : Jvm.MethodName) ({ cls := "IslandCall$Boat", name := "omenNamed", desc := "(J)I" } : Jvm.MethodName)) ∈ lw_all := lw_g (lw_at lw_m3 127 rfl) rfl
theorem q748 : (Jvm.Cond.code ({ cls := "IslandCall$Boat", name := "omenNamed", desc := "(J)I" } : Jvm.MethodName) prog_5_method_5_code (3 : Nat) (Option.some Jvm.ClassFile.FieldType.int)) ∈ lw_all := lw_g (lw_at lw_m3 128 rfl) rfl
theorem q749 : (Jvm.Cond.methodLink "IslandCall$Boat" (69 : Nat) ({ cls := "IslandCall$Boat", name := "find", desc := "([JIJ)I" } : Jvm.MethodName)) ∈ lw_all := lw_g (lw_at lw_m3 129 rfl) rfl
theorem q750 : (Jvm.Cond.static ({ cls := "IslandCall$Boat", name := "find", desc := "([JIJ)I" } : Jvm.MethodName)) ∈ lw_all := lw_g (lw_at lw_m3 130 rfl) rfl
theorem q751 : (Jvm.Cond.code ({ cls := "IslandCall$Boat", name := "find", desc := "([JIJ)I" } : Jvm.MethodName) prog_5_method_4_code (5 : Nat) (Option.some Jvm.ClassFile.FieldType.int)) ∈ lw_all := lw_g (lw_at lw_m3 131 rfl) rfl
theorem q753 : (Jvm.Cond.instanceMethod ({ cls := "IslandCall$Boat", name := "personNamed", desc := "(J)I" } : Jvm.MethodName)) ∈ lw_all := lw_g (lw_at lw_m3 133 rfl) rfl
theorem q754 : (Jvm.Cond.selects "IslandCall$Boat" ({ cls := "IslandCall$Boat", name := "personNamed", desc := "(J)I" } : Jvm.MethodName) ({ cls := "IslandCall$Boat", name := "personNamed", desc := "(J)I" } : Jvm.MethodName)) ∈ lw_all := lw_g (lw_at lw_m3 134 rfl) rfl
theorem q755 : (Jvm.Cond.code ({ cls := "IslandCall$Boat", name := "personNamed", desc := "(J)I" } : Jvm.MethodName) prog_5_method_6_code (3 : Nat) (Option.some Jvm.ClassFile.FieldType.int)) ∈ lw_all := lw_g (lw_at lw_m3 135 rfl) rfl
theorem q777 : (Jvm.Cond.instanceMethod ({ cls := "IslandCall$Boat", name := "comes", desc := "(I)V" } : Jvm.MethodName)) ∈ lw_all := lw_g (lw_at lw_m3 157 rfl) rfl
theorem q778 : (Jvm.Cond.selects "IslandCall$Boat" ({ cls := "IslandCall$Boat", name := "comes", desc := "(I)V" } : Jvm.MethodName) ({ cls := "IslandCall$Boat", name := "comes", desc := "(I)V" } : Jvm.MethodName)) ∈ lw_all := lw_g (lw_at lw_m3 158 rfl) rfl
theorem q779 : (Jvm.Cond.code ({ cls := "IslandCall$Boat", name := "comes", desc := "(I)V" } : Jvm.MethodName) prog_5_method_10_code (2 : Nat) (Option.none : Option Jvm.ClassFile.FieldType)) ∈ lw_all := lw_g (lw_at lw_m3 159 rfl) rfl
theorem q801 : (Jvm.Cond.instanceMethod ({ cls := "IslandCall$Boat", name := "be", desc := "(LIslandCall$Boat;)V" } : Jvm.MethodName)) ∈ lw_all := lw_g (lw_at lw_m3 181 rfl) rfl
theorem q802 : (Jvm.Cond.selects "IslandCall$Boat" ({ cls := "IslandCall$Boat", name := "be", desc := "(LIslandCall$Boat;)V" } : Jvm.MethodName) ({ cls := "IslandCall$Boat", name := "be", desc := "(LIslandCall$Boat;)V" } : Jvm.MethodName)) ∈ lw_all := lw_g (lw_at lw_m3 182 rfl) rfl
theorem q803 : (Jvm.Cond.code ({ cls := "IslandCall$Boat", name := "be", desc := "(LIslandCall$Boat;)V" } : Jvm.MethodName) prog_5_method_2_code (2 : Nat) (Option.none : Option Jvm.ClassFile.FieldType)) ∈ lw_all := lw_g (lw_at lw_m3 183 rfl) rfl
theorem q804 : (Jvm.Cond.methodLink "IslandCall$Boat" (59 : Nat) ({ cls := "IslandCall$Boat", name := "copy", desc := "([I[I)V" } : Jvm.MethodName)) ∈ lw_all := lw_g (lw_at lw_m3 184 rfl) rfl
theorem q805 : (Jvm.Cond.static ({ cls := "IslandCall$Boat", name := "copy", desc := "([I[I)V" } : Jvm.MethodName)) ∈ lw_all := lw_g (lw_at lw_m3 185 rfl) rfl
theorem q806 : (Jvm.Cond.code ({ cls := "IslandCall$Boat", name := "copy", desc := "([I[I)V" } : Jvm.MethodName) prog_5_method_3_code (2 : Nat) (Option.none : Option Jvm.ClassFile.FieldType)) ∈ lw_all := lw_g (lw_at lw_m3 186 rfl) rfl
theorem q807 : (Jvm.Cond.methodLink "IslandCall$Boat" (63 : Nat) ({ cls := "java/lang/System", name := "arraycopy", desc := "(Ljava/lang/Object;ILjava/lang/Object;II)V" } : Jvm.MethodName)) ∈ lw_all := lw_g (lw_at lw_m3 187 rfl) rfl
theorem q923 : (Jvm.Cond.instanceMethod ({ cls := "IslandCall$Boat", name := "allSat", desc := "()I" } : Jvm.MethodName)) ∈ lw_all := lw_g (lw_at lw_m4 63 rfl) rfl
theorem q924 : (Jvm.Cond.selects "IslandCall$Boat" ({ cls := "IslandCall$Boat", name := "allSat", desc := "()I" } : Jvm.MethodName) ({ cls := "IslandCall$Boat", name := "allSat", desc := "()I" } : Jvm.MethodName)) ∈ lw_all := lw_g (lw_at lw_m4 64 rfl) rfl
theorem q925 : (Jvm.Cond.code ({ cls := "IslandCall$Boat", name := "allSat", desc := "()I" } : Jvm.MethodName) prog_5_method_20_code (3 : Nat) (Option.some Jvm.ClassFile.FieldType.int)) ∈ lw_all := lw_g (lw_at lw_m4 65 rfl) rfl
theorem q950 : (Jvm.Cond.instanceMethod ({ cls := "IslandCall$Boat", name := "need", desc := "(II)I" } : Jvm.MethodName)) ∈ lw_all := lw_g (lw_at lw_m4 90 rfl) rfl
theorem q951 : (Jvm.Cond.selects "IslandCall$Boat" ({ cls := "IslandCall$Boat", name := "need", desc := "(II)I" } : Jvm.MethodName) ({ cls := "IslandCall$Boat", name := "need", desc := "(II)I" } : Jvm.MethodName)) ∈ lw_all := lw_g (lw_at lw_m4 91 rfl) rfl
theorem q952 : (Jvm.Cond.code ({ cls := "IslandCall$Boat", name := "need", desc := "(II)I" } : Jvm.MethodName) prog_5_method_12_code (3 : Nat) (Option.some Jvm.ClassFile.FieldType.int)) ∈ lw_all := lw_g (lw_at lw_m4 92 rfl) rfl
theorem q953 : (Jvm.Cond.methodLink "IslandCall$Boat" (87 : Nat) ({ cls := "IslandCall$Boat", name := "needBy", desc := "(III)I" } : Jvm.MethodName)) ∈ lw_all := lw_g (lw_at lw_m4 93 rfl) rfl
theorem q954 : (Jvm.Cond.privateMethod ({ cls := "IslandCall$Boat", name := "needBy", desc := "(III)I" } : Jvm.MethodName)) ∈ lw_tbl := lw_at lw_m4 94 rfl
theorem q955 : (Jvm.Cond.instanceMethod ({ cls := "IslandCall$Boat", name := "needBy", desc := "(III)I" } : Jvm.MethodName)) ∈ lw_all := lw_g (lw_at lw_m4 95 rfl) rfl
theorem q956 : (Jvm.Cond.code ({ cls := "IslandCall$Boat", name := "needBy", desc := "(III)I" } : Jvm.MethodName) prog_5_method_11_code (6 : Nat) (Option.some Jvm.ClassFile.FieldType.int)) ∈ lw_all := lw_g (lw_at lw_m4 96 rfl) rfl
theorem q957 : (Jvm.Cond.methodLinkNest "IslandCall$Boat" (77 : Nat) ({ cls := "IslandCall", name := "has", desc := "(II)Z" } : Jvm.MethodName) "IslandCall") ∈ lw_tbl := lw_at lw_m4 97 rfl
theorem q958 : (Jvm.Cond.methodLink "IslandCall$Boat" (81 : Nat) ({ cls := "java/lang/Math", name := "max", desc := "(II)I" } : Jvm.MethodName)) ∈ lw_all := lw_g (lw_at lw_m4 98 rfl) rfl
theorem q966 : (Jvm.Cond.instanceMethod ({ cls := "IslandCall$Boat", name := "sees", desc := "(I)I" } : Jvm.MethodName)) ∈ lw_all := lw_g (lw_at lw_m4 106 rfl) rfl
theorem q967 : (Jvm.Cond.selects "IslandCall$Boat" ({ cls := "IslandCall$Boat", name := "sees", desc := "(I)I" } : Jvm.MethodName) ({ cls := "IslandCall$Boat", name := "sees", desc := "(I)I" } : Jvm.MethodName)) ∈ lw_all := lw_g (lw_at lw_m4 107 rfl) rfl
theorem q968 : (Jvm.Cond.code ({ cls := "IslandCall$Boat", name := "sees", desc := "(I)I" } : Jvm.MethodName) prog_5_method_9_code (2 : Nat) (Option.some Jvm.ClassFile.FieldType.int)) ∈ lw_all := lw_g (lw_at lw_m4 108 rfl) rfl
theorem q969 : (Jvm.Cond.methodLink "IslandCall$Boat" (73 : Nat) ({ cls := "IslandCall$Boat", name := "all", desc := "()I" } : Jvm.MethodName)) ∈ lw_all := lw_g (lw_at lw_m4 109 rfl) rfl
theorem q970 : (Jvm.Cond.instanceMethod ({ cls := "IslandCall$Boat", name := "all", desc := "()I" } : Jvm.MethodName)) ∈ lw_all := lw_g (lw_at lw_m4 110 rfl) rfl
theorem q971 : (Jvm.Cond.selects "IslandCall$Boat" ({ cls := "IslandCall$Boat", name := "all", desc := "()I" } : Jvm.MethodName) ({ cls := "IslandCall$Boat", name := "all", desc := "()I" } : Jvm.MethodName)) ∈ lw_all := lw_g (lw_at lw_m4 111 rfl) rfl
theorem q972 : (Jvm.Cond.code ({ cls := "IslandCall$Boat", name := "all", desc := "()I" } : Jvm.MethodName) prog_5_method_7_code (1 : Nat) (Option.some Jvm.ClassFile.FieldType.int)) ∈ lw_all := lw_g (lw_at lw_m4 112 rfl) rfl
theorem q982 : (Jvm.Cond.instanceMethod ({ cls := "IslandCall$Boat", name := "call", desc := "()I" } : Jvm.MethodName)) ∈ lw_all := lw_g (lw_at lw_m4 122 rfl) rfl
theorem q983 : (Jvm.Cond.selects "IslandCall$Boat" ({ cls := "IslandCall$Boat", name := "call", desc := "()I" } : Jvm.MethodName) ({ cls := "IslandCall$Boat", name := "call", desc := "()I" } : Jvm.MethodName)) ∈ lw_all := lw_g (lw_at lw_m4 123 rfl) rfl
theorem q984 : (Jvm.Cond.code ({ cls := "IslandCall$Boat", name := "call", desc := "()I" } : Jvm.MethodName) prog_5_method_18_code (3 : Nat) (Option.some Jvm.ClassFile.FieldType.int)) ∈ lw_all := lw_g (lw_at lw_m4 124 rfl) rfl
theorem q985 : (Jvm.Cond.methodLink "IslandCall$Boat" (116 : Nat) ({ cls := "IslandCall$Boat", name := "outBy", desc := "(I)I" } : Jvm.MethodName)) ∈ lw_all := lw_g (lw_at lw_m4 125 rfl) rfl
theorem q986 : (Jvm.Cond.instanceMethod ({ cls := "IslandCall$Boat", name := "outBy", desc := "(I)I" } : Jvm.MethodName)) ∈ lw_all := lw_g (lw_at lw_m4 126 rfl) rfl
theorem q987 : (Jvm.Cond.selects "IslandCall$Boat" ({ cls := "IslandCall$Boat", name := "outBy", desc := "(I)I" } : Jvm.MethodName) ({ cls := "IslandCall$Boat", name := "outBy", desc := "(I)I" } : Jvm.MethodName)) ∈ lw_all := lw_g (lw_at lw_m4 127 rfl) rfl
theorem q988 : (Jvm.Cond.code ({ cls := "IslandCall$Boat", name := "outBy", desc := "(I)I" } : Jvm.MethodName) prog_5_method_16_code (2 : Nat) (Option.some Jvm.ClassFile.FieldType.int)) ∈ lw_all := lw_g (lw_at lw_m4 128 rfl) rfl
theorem q989 : (Jvm.Cond.methodLink "IslandCall$Boat" (113 : Nat) ({ cls := "IslandCall$Boat", name := "rises", desc := "(III)I" } : Jvm.MethodName)) ∈ lw_all := lw_g (lw_at lw_m4 129 rfl) rfl
theorem q990 : (Jvm.Cond.instanceMethod ({ cls := "IslandCall$Boat", name := "rises", desc := "(III)I" } : Jvm.MethodName)) ∈ lw_all := lw_g (lw_at lw_m4 130 rfl) rfl
theorem q991 : (Jvm.Cond.selects "IslandCall$Boat" ({ cls := "IslandCall$Boat", name := "rises", desc := "(III)I" } : Jvm.MethodName) ({ cls := "IslandCall$Boat", name := "rises", desc := "(III)I" } : Jvm.MethodName)) ∈ lw_all := lw_g (lw_at lw_m4 131 rfl) rfl
theorem q992 : (Jvm.Cond.code ({ cls := "IslandCall$Boat", name := "rises", desc := "(III)I" } : Jvm.MethodName) prog_5_method_15_code (6 : Nat) (Option.some Jvm.ClassFile.FieldType.int)) ∈ lw_all := lw_g (lw_at lw_m4 132 rfl) rfl
theorem q993 : (Jvm.Cond.methodLink "IslandCall$Boat" (110 : Nat) ({ cls := "IslandCall$Boat", name := "round", desc := "(II)I" } : Jvm.MethodName)) ∈ lw_all := lw_g (lw_at lw_m4 133 rfl) rfl
theorem q994 : (Jvm.Cond.instanceMethod ({ cls := "IslandCall$Boat", name := "round", desc := "(II)I" } : Jvm.MethodName)) ∈ lw_all := lw_g (lw_at lw_m4 134 rfl) rfl
theorem q995 : (Jvm.Cond.selects "IslandCall$Boat" ({ cls := "IslandCall$Boat", name := "round", desc := "(II)I" } : Jvm.MethodName) ({ cls := "IslandCall$Boat", name := "round", desc := "(II)I" } : Jvm.MethodName)) ∈ lw_all := lw_g (lw_at lw_m4 135 rfl) rfl
theorem q996 : (Jvm.Cond.code ({ cls := "IslandCall$Boat", name := "round", desc := "(II)I" } : Jvm.MethodName) prog_5_method_14_code (5 : Nat) (Option.some Jvm.ClassFile.FieldType.int)) ∈ lw_all := lw_g (lw_at lw_m4 136 rfl) rfl
theorem q997 : (Jvm.Cond.methodLink "IslandCall$Boat" (103 : Nat) ({ cls := "IslandCall$Boat", name := "dares", desc := "(III)Z" } : Jvm.MethodName)) ∈ lw_all := lw_g (lw_at lw_m4 137 rfl) rfl
theorem q998 : (Jvm.Cond.instanceMethod ({ cls := "IslandCall$Boat", name := "dares", desc := "(III)Z" } : Jvm.MethodName)) ∈ lw_all := lw_g (lw_at lw_m4 138 rfl) rfl
theorem q999 : (Jvm.Cond.selects "IslandCall$Boat" ({ cls := "IslandCall$Boat", name := "dares", desc := "(III)Z" } : Jvm.MethodName) ({ cls := "IslandCall$Boat", name := "dares", desc := "(III)Z" } : Jvm.MethodName)) ∈ lw_all := lw_g (lw_at lw_m4 139 rfl) rfl
theorem q1000 : (Jvm.Cond.code ({ cls := "IslandCall$Boat", name := "dares", desc := "(III)Z" } : Jvm.MethodName) prog_5_method_13_code (4 : Nat) (Option.some Jvm.ClassFile.FieldType.boolean)) ∈ lw_all := lw_g (lw_at lw_m4 140 rfl) rfl
theorem q1001 : (Jvm.Cond.methodLink "IslandCall$Boat" (91 : Nat) ({ cls := "IslandCall$Boat", name := "sees", desc := "(I)I" } : Jvm.MethodName)) ∈ lw_all := lw_g (lw_at lw_m4 141 rfl) rfl
theorem q1002 : (Jvm.Cond.methodLink "IslandCall$Boat" (95 : Nat) ({ cls := "java/lang/Integer", name := "bitCount", desc := "(I)I" } : Jvm.MethodName)) ∈ lw_all := lw_g (lw_at lw_m4 142 rfl) rfl
theorem q1008 : (Jvm.Cond.methodLink "IslandCall$Boat" (100 : Nat) ({ cls := "IslandCall$Boat", name := "need", desc := "(II)I" } : Jvm.MethodName)) ∈ lw_all := lw_g (lw_at lw_m4 148 rfl) rfl
theorem q1009 : (Jvm.Cond.methodLink "IslandCall$Boat" (119 : Nat) ({ cls := "java/lang/Math", name := "min", desc := "(II)I" } : Jvm.MethodName)) ∈ lw_all := lw_g (lw_at lw_m4 149 rfl) rfl
theorem q1081 : (Jvm.Cond.instanceMethod ({ cls := "IslandCall$Boat", name := "rest", desc := "(II)I" } : Jvm.MethodName)) ∈ lw_all := lw_g (lw_at lw_m4 221 rfl) rfl
theorem q1082 : (Jvm.Cond.selects "IslandCall$Boat" ({ cls := "IslandCall$Boat", name := "rest", desc := "(II)I" } : Jvm.MethodName) ({ cls := "IslandCall$Boat", name := "rest", desc := "(II)I" } : Jvm.MethodName)) ∈ lw_all := lw_g (lw_at lw_m4 222 rfl) rfl
theorem q1083 : (Jvm.Cond.code ({ cls := "IslandCall$Boat", name := "rest", desc := "(II)I" } : Jvm.MethodName) prog_5_method_17_code (3 : Nat) (Option.some Jvm.ClassFile.FieldType.int)) ∈ lw_all := lw_g (lw_at lw_m4 223 rfl) rfl
theorem q1098 : (Jvm.Cond.instanceMethod ({ cls := "IslandCall$Boat", name := "atRest", desc := "(II)Z" } : Jvm.MethodName)) ∈ lw_all := lw_g (lw_at lw_m4 238 rfl) rfl
theorem q1099 : (Jvm.Cond.selects "IslandCall$Boat" ({ cls := "IslandCall$Boat", name := "atRest", desc := "(II)Z" } : Jvm.MethodName) ({ cls := "IslandCall$Boat", name := "atRest", desc := "(II)Z" } : Jvm.MethodName)) ∈ lw_all := lw_g (lw_at lw_m4 239 rfl) rfl
theorem q1100 : (Jvm.Cond.code ({ cls := "IslandCall$Boat", name := "atRest", desc := "(II)Z" } : Jvm.MethodName) prog_5_method_19_code (4 : Nat) (Option.some Jvm.ClassFile.FieldType.boolean)) ∈ lw_all := lw_g (lw_at lw_m5 0 rfl) rfl
theorem q1179 : (Jvm.Cond.instanceMethod ({ cls := "IslandCall$Boat", name := "out", desc := "()I" } : Jvm.MethodName)) ∈ lw_all := lw_g (lw_at lw_m5 79 rfl) rfl
theorem q1180 : (Jvm.Cond.selects "IslandCall$Boat" ({ cls := "IslandCall$Boat", name := "out", desc := "()I" } : Jvm.MethodName) ({ cls := "IslandCall$Boat", name := "out", desc := "()I" } : Jvm.MethodName)) ∈ lw_all := lw_g (lw_at lw_m5 80 rfl) rfl
theorem q1181 : (Jvm.Cond.code ({ cls := "IslandCall$Boat", name := "out", desc := "()I" } : Jvm.MethodName) prog_5_method_8_code (1 : Nat) (Option.some Jvm.ClassFile.FieldType.int)) ∈ lw_all := lw_g (lw_at lw_m5 81 rfl) rfl
theorem in_X5 : ∀ w ∈ wsX50, w ∈ lw_all := lw_in wsX50 [340, 342, 344, 346, 348, 350, 352, 354, 356, 358, 360, 362, 364, 366, 368, 370] (by decide +kernel) (by decide +kernel)

/-! IslandCall$Reader -/
set_option maxRecDepth 100000
def RX7 : String := "IslandCall$Reader"
def TX7 : u_T := fun k => match k with
  | 0 => ("IslandCall$Reader", "size", "I", true)
  | 1 => ("IslandCall$Reader", "at", "I", false)
  | 2 => ("IslandCall$Reader", "behind", "I", false)
  | 3 => ("IslandCall$Reader", "sort", "I", false)
  | 4 => ("IslandCall$Reader", "number", "I", false)
  | 5 => ("IslandCall$Reader", "steps", "I", false)
  | 6 => ("IslandCall$Reader", "told", "I", false)
  | _ => ("IslandCall$Reader", "this$0", "LIslandCall;", true)
def tyX7 : Nat → FieldType := fun k => match k with
  | 0 => .int
  | 1 => .int
  | 2 => .int
  | 3 => .int
  | 4 => .int
  | 5 => .int
  | 6 => .int
  | _ => .object "IslandCall"
abbrev wsX70 : List Cond := u_ws RX7 TX7 8
theorem nmX7 : ∀ a, a < 8 → ∀ b, b < 8 → a ≠ b → (TX7 a).2.1 ≠ (TX7 b).2.1 := by decide +kernel
theorem tyX7_ok : ∀ k, k < 8 → parseFieldDescriptor (TX7 k).2.2.1 = some (tyX7 k) := by decide +kernel
abbrev cX7_init : ByteArray := prog_9_method_1_code
def yX7_init : MethodName := ⟨RX7, "<init>", "(LIslandCall;I)V"⟩
def dkwX7_init_0 : List UInt8 := [42, 43, 181, 0, 3, 42, 183, 0, 9, 42, 28, 181, 0, 15, 42, 182, 0, 19, 177]
abbrev dktX7_init_0 : List UInt8 := dkwX7_init_0 ++ []
theorem dksX7_init_0 : cX7_init.data.toList.drop 0 = dktX7_init_0 := by decide +kernel
theorem dX7_init_0 : decode cX7_init 0 = .ok (.aload_n 0, 1) := dk_42 (dk_at dksX7_init_0 0 rfl rfl)
theorem dX7_init_1 : decode cX7_init 1 = .ok (.aload_n 1, 1) := dk_43 (dk_at dksX7_init_0 1 rfl rfl)
theorem dX7_init_2 : decode cX7_init 2 = .ok (.putfield 3, 3) := dk_181 0 3 (dk_at dksX7_init_0 2 rfl rfl)
theorem dX7_init_5 : decode cX7_init 5 = .ok (.aload_n 0, 1) := dk_42 (dk_at dksX7_init_0 5 rfl rfl)
theorem dX7_init_6 : decode cX7_init 6 = .ok (.invokespecial 9, 3) := dk_183 0 9 (dk_at dksX7_init_0 6 rfl rfl)
theorem dX7_init_9 : decode cX7_init 9 = .ok (.aload_n 0, 1) := dk_42 (dk_at dksX7_init_0 9 rfl rfl)
theorem dX7_init_10 : decode cX7_init 10 = .ok (.iload_n 2, 1) := dk_28 (dk_at dksX7_init_0 10 rfl rfl)
theorem dX7_init_11 : decode cX7_init 11 = .ok (.putfield 15, 3) := dk_181 0 15 (dk_at dksX7_init_0 11 rfl rfl)
theorem dX7_init_14 : decode cX7_init 14 = .ok (.aload_n 0, 1) := dk_42 (dk_at dksX7_init_0 14 rfl rfl)
theorem dX7_init_15 : decode cX7_init 15 = .ok (.invokevirtual 19, 3) := dk_182 0 19 (dk_at dksX7_init_0 15 rfl rfl)
theorem dX7_init_18 : decode cX7_init 18 = .ok (.return_, 1) := dk_177 (dk_at dksX7_init_0 18 rfl rfl)
abbrev cX7_next : ByteArray := prog_9_method_4_code
def yX7_next : MethodName := ⟨RX7, "next", "()V"⟩
def dkwX7_next_13 : List UInt8 := [180, 0, 22, 42, 180, 0, 29, 51, 16, 61, 160, 0, 7, 6, 167, 0, 4, 7, 181, 0, 32, 177]
abbrev dktX7_next_13 : List UInt8 := dkwX7_next_13 ++ []
def dkwX7_next_12 : List UInt8 := [159, 0, 37, 42, 180, 0, 3, 180, 0, 22, 42, 180, 0, 29, 51, 16, 62, 159, 0, 20, 42, 180, 0, 3]
abbrev dktX7_next_12 : List UInt8 := dkwX7_next_12 ++ dktX7_next_13
def dkwX7_next_11 : List UInt8 := [180, 0, 29, 51, 16, 59, 159, 0, 54, 42, 180, 0, 3, 180, 0, 22, 42, 180, 0, 29, 51, 16, 60]
abbrev dktX7_next_11 : List UInt8 := dkwX7_next_11 ++ dktX7_next_12
def dkwX7_next_10 : List UInt8 := [167, 0, 90, 42, 42, 180, 0, 29, 4, 96, 181, 0, 26, 42, 42, 180, 0, 3, 180, 0, 22, 42]
abbrev dktX7_next_10 : List UInt8 := dkwX7_next_10 ++ dktX7_next_11
def dkwX7_next_9 : List UInt8 := [42, 42, 180, 0, 26, 42, 180, 0, 29, 100, 7, 164, 0, 7, 7, 167, 0, 4, 5, 181, 0, 32]
abbrev dktX7_next_9 : List UInt8 := dkwX7_next_9 ++ dktX7_next_10
def dkwX7_next_8 : List UInt8 := [180, 0, 26, 51, 96, 16, 48, 100, 181, 0, 42, 42, 89, 180, 0, 26, 4, 96, 181, 0, 26, 167, 255, 195]
abbrev dktX7_next_8 : List UInt8 := dkwX7_next_8 ++ dktX7_next_9
def dkwX7_next_7 : List UInt8 := [180, 0, 29, 100, 7, 162, 0, 30, 42, 16, 10, 42, 180, 0, 42, 104, 42, 180, 0, 3, 180, 0, 22, 42]
abbrev dktX7_next_7 : List UInt8 := dkwX7_next_7 ++ dktX7_next_8
def dkwX7_next_6 : List UInt8 := [153, 0, 97, 42, 3, 181, 0, 42, 42, 42, 180, 0, 26, 182, 0, 39, 153, 0, 56, 42, 180, 0, 26, 42]
abbrev dktX7_next_6 : List UInt8 := dkwX7_next_6 ++ dktX7_next_7
def dkwX7_next_5 : List UInt8 := [153, 0, 208, 42, 89, 180, 0, 26, 4, 96, 181, 0, 26, 167, 255, 235, 42, 42, 180, 0, 29, 182, 0, 39]
abbrev dktX7_next_5 : List UInt8 := dkwX7_next_5 ++ dktX7_next_6
def dkwX7_next_4 : List UInt8 := [180, 0, 29, 182, 0, 35, 153, 0, 32, 42, 4, 181, 0, 32, 42, 42, 180, 0, 26, 182, 0, 35]
abbrev dktX7_next_4 : List UInt8 := dkwX7_next_4 ++ dktX7_next_5
def dkwX7_next_3 : List UInt8 := [181, 0, 26, 42, 3, 181, 0, 32, 42, 180, 0, 29, 42, 180, 0, 15, 161, 0, 4, 177, 42, 42]
abbrev dktX7_next_3 : List UInt8 := dkwX7_next_3 ++ dktX7_next_4
def dkwX7_next_2 : List UInt8 := [51, 16, 32, 160, 0, 16, 42, 89, 180, 0, 29, 4, 96, 181, 0, 29, 167, 255, 201, 42, 42, 180, 0, 29]
abbrev dktX7_next_2 : List UInt8 := dkwX7_next_2 ++ dktX7_next_3
def dkwX7_next_1 : List UInt8 := [180, 0, 22, 42, 180, 0, 29, 51, 16, 10, 159, 0, 20, 42, 180, 0, 3, 180, 0, 22, 42, 180, 0, 29]
abbrev dktX7_next_1 : List UInt8 := dkwX7_next_1 ++ dktX7_next_2
def dkwX7_next_0 : List UInt8 := [42, 42, 180, 0, 26, 181, 0, 29, 42, 180, 0, 29, 42, 180, 0, 15, 162, 0, 50, 42, 180, 0, 3]
abbrev dktX7_next_0 : List UInt8 := dkwX7_next_0 ++ dktX7_next_1
theorem dksX7_next_0 : cX7_next.data.toList.drop 0 = dktX7_next_0 := by decide +kernel
theorem dksX7_next_1 : cX7_next.data.toList.drop 23 = dktX7_next_1 := dk_seg dksX7_next_0 23 rfl rfl
theorem dksX7_next_2 : cX7_next.data.toList.drop 47 = dktX7_next_2 := dk_seg dksX7_next_1 24 rfl rfl
theorem dksX7_next_3 : cX7_next.data.toList.drop 71 = dktX7_next_3 := dk_seg dksX7_next_2 24 rfl rfl
theorem dksX7_next_4 : cX7_next.data.toList.drop 93 = dktX7_next_4 := dk_seg dksX7_next_3 22 rfl rfl
theorem dksX7_next_5 : cX7_next.data.toList.drop 115 = dktX7_next_5 := dk_seg dksX7_next_4 22 rfl rfl
theorem dksX7_next_6 : cX7_next.data.toList.drop 139 = dktX7_next_6 := dk_seg dksX7_next_5 24 rfl rfl
theorem dksX7_next_7 : cX7_next.data.toList.drop 163 = dktX7_next_7 := dk_seg dksX7_next_6 24 rfl rfl
theorem dksX7_next_8 : cX7_next.data.toList.drop 187 = dktX7_next_8 := dk_seg dksX7_next_7 24 rfl rfl
theorem dksX7_next_9 : cX7_next.data.toList.drop 211 = dktX7_next_9 := dk_seg dksX7_next_8 24 rfl rfl
theorem dksX7_next_10 : cX7_next.data.toList.drop 233 = dktX7_next_10 := dk_seg dksX7_next_9 22 rfl rfl
theorem dksX7_next_11 : cX7_next.data.toList.drop 255 = dktX7_next_11 := dk_seg dksX7_next_10 22 rfl rfl
theorem dksX7_next_12 : cX7_next.data.toList.drop 278 = dktX7_next_12 := dk_seg dksX7_next_11 23 rfl rfl
theorem dksX7_next_13 : cX7_next.data.toList.drop 302 = dktX7_next_13 := dk_seg dksX7_next_12 24 rfl rfl
theorem dX7_next_0 : decode cX7_next 0 = .ok (.aload_n 0, 1) := dk_42 (dk_at dksX7_next_0 0 rfl rfl)
theorem dX7_next_1 : decode cX7_next 1 = .ok (.aload_n 0, 1) := dk_42 (dk_at dksX7_next_0 1 rfl rfl)
theorem dX7_next_2 : decode cX7_next 2 = .ok (.getfield 26, 3) := dk_180 0 26 (dk_at dksX7_next_0 2 rfl rfl)
theorem dX7_next_5 : decode cX7_next 5 = .ok (.putfield 29, 3) := dk_181 0 29 (dk_at dksX7_next_0 5 rfl rfl)
theorem dX7_next_8 : decode cX7_next 8 = .ok (.aload_n 0, 1) := dk_42 (dk_at dksX7_next_0 8 rfl rfl)
theorem dX7_next_9 : decode cX7_next 9 = .ok (.getfield 29, 3) := dk_180 0 29 (dk_at dksX7_next_0 9 rfl rfl)
theorem dX7_next_12 : decode cX7_next 12 = .ok (.aload_n 0, 1) := dk_42 (dk_at dksX7_next_0 12 rfl rfl)
theorem dX7_next_13 : decode cX7_next 13 = .ok (.getfield 15, 3) := dk_180 0 15 (dk_at dksX7_next_0 13 rfl rfl)
theorem dX7_next_16 : decode cX7_next 16 = .ok (.if_icmp .ge 50, 3) := dk_162 0 50 (dk_at dksX7_next_0 16 rfl rfl)
theorem dX7_next_19 : decode cX7_next 19 = .ok (.aload_n 0, 1) := dk_42 (dk_at dksX7_next_0 19 rfl rfl)
theorem dX7_next_20 : decode cX7_next 20 = .ok (.getfield 3, 3) := dk_180 0 3 (dk_at dksX7_next_0 20 rfl rfl)
theorem dX7_next_23 : decode cX7_next 23 = .ok (.getfield 22, 3) := dk_180 0 22 (dk_at dksX7_next_1 0 rfl rfl)
theorem dX7_next_26 : decode cX7_next 26 = .ok (.aload_n 0, 1) := dk_42 (dk_at dksX7_next_1 3 rfl rfl)
theorem dX7_next_27 : decode cX7_next 27 = .ok (.getfield 29, 3) := dk_180 0 29 (dk_at dksX7_next_1 4 rfl rfl)
theorem dX7_next_30 : decode cX7_next 30 = .ok (.baload, 1) := dk_51 (dk_at dksX7_next_1 7 rfl rfl)
theorem dX7_next_31 : decode cX7_next 31 = .ok (.bipush 10, 2) := dk_16 10 (dk_at dksX7_next_1 8 rfl rfl)
theorem dX7_next_33 : decode cX7_next 33 = .ok (.if_icmp .eq 20, 3) := dk_159 0 20 (dk_at dksX7_next_1 10 rfl rfl)
theorem dX7_next_36 : decode cX7_next 36 = .ok (.aload_n 0, 1) := dk_42 (dk_at dksX7_next_1 13 rfl rfl)
theorem dX7_next_37 : decode cX7_next 37 = .ok (.getfield 3, 3) := dk_180 0 3 (dk_at dksX7_next_1 14 rfl rfl)
theorem dX7_next_40 : decode cX7_next 40 = .ok (.getfield 22, 3) := dk_180 0 22 (dk_at dksX7_next_1 17 rfl rfl)
theorem dX7_next_43 : decode cX7_next 43 = .ok (.aload_n 0, 1) := dk_42 (dk_at dksX7_next_1 20 rfl rfl)
theorem dX7_next_44 : decode cX7_next 44 = .ok (.getfield 29, 3) := dk_180 0 29 (dk_at dksX7_next_1 21 rfl rfl)
theorem dX7_next_47 : decode cX7_next 47 = .ok (.baload, 1) := dk_51 (dk_at dksX7_next_2 0 rfl rfl)
theorem dX7_next_48 : decode cX7_next 48 = .ok (.bipush 32, 2) := dk_16 32 (dk_at dksX7_next_2 1 rfl rfl)
theorem dX7_next_50 : decode cX7_next 50 = .ok (.if_icmp .ne 16, 3) := dk_160 0 16 (dk_at dksX7_next_2 3 rfl rfl)
theorem dX7_next_53 : decode cX7_next 53 = .ok (.aload_n 0, 1) := dk_42 (dk_at dksX7_next_2 6 rfl rfl)
theorem dX7_next_54 : decode cX7_next 54 = .ok (.dup, 1) := dk_89 (dk_at dksX7_next_2 7 rfl rfl)
theorem dX7_next_55 : decode cX7_next 55 = .ok (.getfield 29, 3) := dk_180 0 29 (dk_at dksX7_next_2 8 rfl rfl)
theorem dX7_next_58 : decode cX7_next 58 = .ok (.iconst 1, 1) := dk_4 (dk_at dksX7_next_2 11 rfl rfl)
theorem dX7_next_59 : decode cX7_next 59 = .ok (.iadd, 1) := dk_96 (dk_at dksX7_next_2 12 rfl rfl)
theorem dX7_next_60 : decode cX7_next 60 = .ok (.putfield 29, 3) := dk_181 0 29 (dk_at dksX7_next_2 13 rfl rfl)
theorem dX7_next_63 : decode cX7_next 63 = .ok (.goto (-55), 3) := dk_167 255 201 (dk_at dksX7_next_2 16 rfl rfl)
theorem dX7_next_66 : decode cX7_next 66 = .ok (.aload_n 0, 1) := dk_42 (dk_at dksX7_next_2 19 rfl rfl)
theorem dX7_next_67 : decode cX7_next 67 = .ok (.aload_n 0, 1) := dk_42 (dk_at dksX7_next_2 20 rfl rfl)
theorem dX7_next_68 : decode cX7_next 68 = .ok (.getfield 29, 3) := dk_180 0 29 (dk_at dksX7_next_2 21 rfl rfl)
theorem dX7_next_71 : decode cX7_next 71 = .ok (.putfield 26, 3) := dk_181 0 26 (dk_at dksX7_next_3 0 rfl rfl)
theorem dX7_next_74 : decode cX7_next 74 = .ok (.aload_n 0, 1) := dk_42 (dk_at dksX7_next_3 3 rfl rfl)
theorem dX7_next_75 : decode cX7_next 75 = .ok (.iconst 0, 1) := dk_3 (dk_at dksX7_next_3 4 rfl rfl)
theorem dX7_next_76 : decode cX7_next 76 = .ok (.putfield 32, 3) := dk_181 0 32 (dk_at dksX7_next_3 5 rfl rfl)
theorem dX7_next_79 : decode cX7_next 79 = .ok (.aload_n 0, 1) := dk_42 (dk_at dksX7_next_3 8 rfl rfl)
theorem dX7_next_80 : decode cX7_next 80 = .ok (.getfield 29, 3) := dk_180 0 29 (dk_at dksX7_next_3 9 rfl rfl)
theorem dX7_next_83 : decode cX7_next 83 = .ok (.aload_n 0, 1) := dk_42 (dk_at dksX7_next_3 12 rfl rfl)
theorem dX7_next_84 : decode cX7_next 84 = .ok (.getfield 15, 3) := dk_180 0 15 (dk_at dksX7_next_3 13 rfl rfl)
theorem dX7_next_87 : decode cX7_next 87 = .ok (.if_icmp .lt 4, 3) := dk_161 0 4 (dk_at dksX7_next_3 16 rfl rfl)
theorem dX7_next_90 : decode cX7_next 90 = .ok (.return_, 1) := dk_177 (dk_at dksX7_next_3 19 rfl rfl)
theorem dX7_next_91 : decode cX7_next 91 = .ok (.aload_n 0, 1) := dk_42 (dk_at dksX7_next_3 20 rfl rfl)
theorem dX7_next_92 : decode cX7_next 92 = .ok (.aload_n 0, 1) := dk_42 (dk_at dksX7_next_3 21 rfl rfl)
theorem dX7_next_93 : decode cX7_next 93 = .ok (.getfield 29, 3) := dk_180 0 29 (dk_at dksX7_next_4 0 rfl rfl)
theorem dX7_next_96 : decode cX7_next 96 = .ok (.invokevirtual 35, 3) := dk_182 0 35 (dk_at dksX7_next_4 3 rfl rfl)
theorem dX7_next_99 : decode cX7_next 99 = .ok (.ifCond .eq 32, 3) := dk_153 0 32 (dk_at dksX7_next_4 6 rfl rfl)
theorem dX7_next_102 : decode cX7_next 102 = .ok (.aload_n 0, 1) := dk_42 (dk_at dksX7_next_4 9 rfl rfl)
theorem dX7_next_103 : decode cX7_next 103 = .ok (.iconst 1, 1) := dk_4 (dk_at dksX7_next_4 10 rfl rfl)
theorem dX7_next_104 : decode cX7_next 104 = .ok (.putfield 32, 3) := dk_181 0 32 (dk_at dksX7_next_4 11 rfl rfl)
theorem dX7_next_107 : decode cX7_next 107 = .ok (.aload_n 0, 1) := dk_42 (dk_at dksX7_next_4 14 rfl rfl)
theorem dX7_next_108 : decode cX7_next 108 = .ok (.aload_n 0, 1) := dk_42 (dk_at dksX7_next_4 15 rfl rfl)
theorem dX7_next_109 : decode cX7_next 109 = .ok (.getfield 26, 3) := dk_180 0 26 (dk_at dksX7_next_4 16 rfl rfl)
theorem dX7_next_112 : decode cX7_next 112 = .ok (.invokevirtual 35, 3) := dk_182 0 35 (dk_at dksX7_next_4 19 rfl rfl)
theorem dX7_next_115 : decode cX7_next 115 = .ok (.ifCond .eq 208, 3) := dk_153 0 208 (dk_at dksX7_next_5 0 rfl rfl)
theorem dX7_next_118 : decode cX7_next 118 = .ok (.aload_n 0, 1) := dk_42 (dk_at dksX7_next_5 3 rfl rfl)
theorem dX7_next_119 : decode cX7_next 119 = .ok (.dup, 1) := dk_89 (dk_at dksX7_next_5 4 rfl rfl)
theorem dX7_next_120 : decode cX7_next 120 = .ok (.getfield 26, 3) := dk_180 0 26 (dk_at dksX7_next_5 5 rfl rfl)
theorem dX7_next_123 : decode cX7_next 123 = .ok (.iconst 1, 1) := dk_4 (dk_at dksX7_next_5 8 rfl rfl)
theorem dX7_next_124 : decode cX7_next 124 = .ok (.iadd, 1) := dk_96 (dk_at dksX7_next_5 9 rfl rfl)
theorem dX7_next_125 : decode cX7_next 125 = .ok (.putfield 26, 3) := dk_181 0 26 (dk_at dksX7_next_5 10 rfl rfl)
theorem dX7_next_128 : decode cX7_next 128 = .ok (.goto (-21), 3) := dk_167 255 235 (dk_at dksX7_next_5 13 rfl rfl)
theorem dX7_next_131 : decode cX7_next 131 = .ok (.aload_n 0, 1) := dk_42 (dk_at dksX7_next_5 16 rfl rfl)
theorem dX7_next_132 : decode cX7_next 132 = .ok (.aload_n 0, 1) := dk_42 (dk_at dksX7_next_5 17 rfl rfl)
theorem dX7_next_133 : decode cX7_next 133 = .ok (.getfield 29, 3) := dk_180 0 29 (dk_at dksX7_next_5 18 rfl rfl)
theorem dX7_next_136 : decode cX7_next 136 = .ok (.invokevirtual 39, 3) := dk_182 0 39 (dk_at dksX7_next_5 21 rfl rfl)
theorem dX7_next_139 : decode cX7_next 139 = .ok (.ifCond .eq 97, 3) := dk_153 0 97 (dk_at dksX7_next_6 0 rfl rfl)
theorem dX7_next_142 : decode cX7_next 142 = .ok (.aload_n 0, 1) := dk_42 (dk_at dksX7_next_6 3 rfl rfl)
theorem dX7_next_143 : decode cX7_next 143 = .ok (.iconst 0, 1) := dk_3 (dk_at dksX7_next_6 4 rfl rfl)
theorem dX7_next_144 : decode cX7_next 144 = .ok (.putfield 42, 3) := dk_181 0 42 (dk_at dksX7_next_6 5 rfl rfl)
theorem dX7_next_147 : decode cX7_next 147 = .ok (.aload_n 0, 1) := dk_42 (dk_at dksX7_next_6 8 rfl rfl)
theorem dX7_next_148 : decode cX7_next 148 = .ok (.aload_n 0, 1) := dk_42 (dk_at dksX7_next_6 9 rfl rfl)
theorem dX7_next_149 : decode cX7_next 149 = .ok (.getfield 26, 3) := dk_180 0 26 (dk_at dksX7_next_6 10 rfl rfl)
theorem dX7_next_152 : decode cX7_next 152 = .ok (.invokevirtual 39, 3) := dk_182 0 39 (dk_at dksX7_next_6 13 rfl rfl)
theorem dX7_next_155 : decode cX7_next 155 = .ok (.ifCond .eq 56, 3) := dk_153 0 56 (dk_at dksX7_next_6 16 rfl rfl)
theorem dX7_next_158 : decode cX7_next 158 = .ok (.aload_n 0, 1) := dk_42 (dk_at dksX7_next_6 19 rfl rfl)
theorem dX7_next_159 : decode cX7_next 159 = .ok (.getfield 26, 3) := dk_180 0 26 (dk_at dksX7_next_6 20 rfl rfl)
theorem dX7_next_162 : decode cX7_next 162 = .ok (.aload_n 0, 1) := dk_42 (dk_at dksX7_next_6 23 rfl rfl)
theorem dX7_next_163 : decode cX7_next 163 = .ok (.getfield 29, 3) := dk_180 0 29 (dk_at dksX7_next_7 0 rfl rfl)
theorem dX7_next_166 : decode cX7_next 166 = .ok (.isub, 1) := dk_100 (dk_at dksX7_next_7 3 rfl rfl)
theorem dX7_next_167 : decode cX7_next 167 = .ok (.iconst 4, 1) := dk_7 (dk_at dksX7_next_7 4 rfl rfl)
theorem dX7_next_168 : decode cX7_next 168 = .ok (.if_icmp .ge 30, 3) := dk_162 0 30 (dk_at dksX7_next_7 5 rfl rfl)
theorem dX7_next_171 : decode cX7_next 171 = .ok (.aload_n 0, 1) := dk_42 (dk_at dksX7_next_7 8 rfl rfl)
theorem dX7_next_172 : decode cX7_next 172 = .ok (.bipush 10, 2) := dk_16 10 (dk_at dksX7_next_7 9 rfl rfl)
theorem dX7_next_174 : decode cX7_next 174 = .ok (.aload_n 0, 1) := dk_42 (dk_at dksX7_next_7 11 rfl rfl)
theorem dX7_next_175 : decode cX7_next 175 = .ok (.getfield 42, 3) := dk_180 0 42 (dk_at dksX7_next_7 12 rfl rfl)
theorem dX7_next_178 : decode cX7_next 178 = .ok (.imul, 1) := dk_104 (dk_at dksX7_next_7 15 rfl rfl)
theorem dX7_next_179 : decode cX7_next 179 = .ok (.aload_n 0, 1) := dk_42 (dk_at dksX7_next_7 16 rfl rfl)
theorem dX7_next_180 : decode cX7_next 180 = .ok (.getfield 3, 3) := dk_180 0 3 (dk_at dksX7_next_7 17 rfl rfl)
theorem dX7_next_183 : decode cX7_next 183 = .ok (.getfield 22, 3) := dk_180 0 22 (dk_at dksX7_next_7 20 rfl rfl)
theorem dX7_next_186 : decode cX7_next 186 = .ok (.aload_n 0, 1) := dk_42 (dk_at dksX7_next_7 23 rfl rfl)
theorem dX7_next_187 : decode cX7_next 187 = .ok (.getfield 26, 3) := dk_180 0 26 (dk_at dksX7_next_8 0 rfl rfl)
theorem dX7_next_190 : decode cX7_next 190 = .ok (.baload, 1) := dk_51 (dk_at dksX7_next_8 3 rfl rfl)
theorem dX7_next_191 : decode cX7_next 191 = .ok (.iadd, 1) := dk_96 (dk_at dksX7_next_8 4 rfl rfl)
theorem dX7_next_192 : decode cX7_next 192 = .ok (.bipush 48, 2) := dk_16 48 (dk_at dksX7_next_8 5 rfl rfl)
theorem dX7_next_194 : decode cX7_next 194 = .ok (.isub, 1) := dk_100 (dk_at dksX7_next_8 7 rfl rfl)
theorem dX7_next_195 : decode cX7_next 195 = .ok (.putfield 42, 3) := dk_181 0 42 (dk_at dksX7_next_8 8 rfl rfl)
theorem dX7_next_198 : decode cX7_next 198 = .ok (.aload_n 0, 1) := dk_42 (dk_at dksX7_next_8 11 rfl rfl)
theorem dX7_next_199 : decode cX7_next 199 = .ok (.dup, 1) := dk_89 (dk_at dksX7_next_8 12 rfl rfl)
theorem dX7_next_200 : decode cX7_next 200 = .ok (.getfield 26, 3) := dk_180 0 26 (dk_at dksX7_next_8 13 rfl rfl)
theorem dX7_next_203 : decode cX7_next 203 = .ok (.iconst 1, 1) := dk_4 (dk_at dksX7_next_8 16 rfl rfl)
theorem dX7_next_204 : decode cX7_next 204 = .ok (.iadd, 1) := dk_96 (dk_at dksX7_next_8 17 rfl rfl)
theorem dX7_next_205 : decode cX7_next 205 = .ok (.putfield 26, 3) := dk_181 0 26 (dk_at dksX7_next_8 18 rfl rfl)
theorem dX7_next_208 : decode cX7_next 208 = .ok (.goto (-61), 3) := dk_167 255 195 (dk_at dksX7_next_8 21 rfl rfl)
theorem dX7_next_211 : decode cX7_next 211 = .ok (.aload_n 0, 1) := dk_42 (dk_at dksX7_next_9 0 rfl rfl)
theorem dX7_next_212 : decode cX7_next 212 = .ok (.aload_n 0, 1) := dk_42 (dk_at dksX7_next_9 1 rfl rfl)
theorem dX7_next_213 : decode cX7_next 213 = .ok (.getfield 26, 3) := dk_180 0 26 (dk_at dksX7_next_9 2 rfl rfl)
theorem dX7_next_216 : decode cX7_next 216 = .ok (.aload_n 0, 1) := dk_42 (dk_at dksX7_next_9 5 rfl rfl)
theorem dX7_next_217 : decode cX7_next 217 = .ok (.getfield 29, 3) := dk_180 0 29 (dk_at dksX7_next_9 6 rfl rfl)
theorem dX7_next_220 : decode cX7_next 220 = .ok (.isub, 1) := dk_100 (dk_at dksX7_next_9 9 rfl rfl)
theorem dX7_next_221 : decode cX7_next 221 = .ok (.iconst 4, 1) := dk_7 (dk_at dksX7_next_9 10 rfl rfl)
theorem dX7_next_222 : decode cX7_next 222 = .ok (.if_icmp .le 7, 3) := dk_164 0 7 (dk_at dksX7_next_9 11 rfl rfl)
theorem dX7_next_225 : decode cX7_next 225 = .ok (.iconst 4, 1) := dk_7 (dk_at dksX7_next_9 14 rfl rfl)
theorem dX7_next_226 : decode cX7_next 226 = .ok (.goto 4, 3) := dk_167 0 4 (dk_at dksX7_next_9 15 rfl rfl)
theorem dX7_next_229 : decode cX7_next 229 = .ok (.iconst 2, 1) := dk_5 (dk_at dksX7_next_9 18 rfl rfl)
theorem dX7_next_230 : decode cX7_next 230 = .ok (.putfield 32, 3) := dk_181 0 32 (dk_at dksX7_next_9 19 rfl rfl)
theorem dX7_next_233 : decode cX7_next 233 = .ok (.goto 90, 3) := dk_167 0 90 (dk_at dksX7_next_10 0 rfl rfl)
theorem dX7_next_236 : decode cX7_next 236 = .ok (.aload_n 0, 1) := dk_42 (dk_at dksX7_next_10 3 rfl rfl)
theorem dX7_next_237 : decode cX7_next 237 = .ok (.aload_n 0, 1) := dk_42 (dk_at dksX7_next_10 4 rfl rfl)
theorem dX7_next_238 : decode cX7_next 238 = .ok (.getfield 29, 3) := dk_180 0 29 (dk_at dksX7_next_10 5 rfl rfl)
theorem dX7_next_241 : decode cX7_next 241 = .ok (.iconst 1, 1) := dk_4 (dk_at dksX7_next_10 8 rfl rfl)
theorem dX7_next_242 : decode cX7_next 242 = .ok (.iadd, 1) := dk_96 (dk_at dksX7_next_10 9 rfl rfl)
theorem dX7_next_243 : decode cX7_next 243 = .ok (.putfield 26, 3) := dk_181 0 26 (dk_at dksX7_next_10 10 rfl rfl)
theorem dX7_next_246 : decode cX7_next 246 = .ok (.aload_n 0, 1) := dk_42 (dk_at dksX7_next_10 13 rfl rfl)
theorem dX7_next_247 : decode cX7_next 247 = .ok (.aload_n 0, 1) := dk_42 (dk_at dksX7_next_10 14 rfl rfl)
theorem dX7_next_248 : decode cX7_next 248 = .ok (.getfield 3, 3) := dk_180 0 3 (dk_at dksX7_next_10 15 rfl rfl)
theorem dX7_next_251 : decode cX7_next 251 = .ok (.getfield 22, 3) := dk_180 0 22 (dk_at dksX7_next_10 18 rfl rfl)
theorem dX7_next_254 : decode cX7_next 254 = .ok (.aload_n 0, 1) := dk_42 (dk_at dksX7_next_10 21 rfl rfl)
theorem dX7_next_255 : decode cX7_next 255 = .ok (.getfield 29, 3) := dk_180 0 29 (dk_at dksX7_next_11 0 rfl rfl)
theorem dX7_next_258 : decode cX7_next 258 = .ok (.baload, 1) := dk_51 (dk_at dksX7_next_11 3 rfl rfl)
theorem dX7_next_259 : decode cX7_next 259 = .ok (.bipush 59, 2) := dk_16 59 (dk_at dksX7_next_11 4 rfl rfl)
theorem dX7_next_261 : decode cX7_next 261 = .ok (.if_icmp .eq 54, 3) := dk_159 0 54 (dk_at dksX7_next_11 6 rfl rfl)
theorem dX7_next_264 : decode cX7_next 264 = .ok (.aload_n 0, 1) := dk_42 (dk_at dksX7_next_11 9 rfl rfl)
theorem dX7_next_265 : decode cX7_next 265 = .ok (.getfield 3, 3) := dk_180 0 3 (dk_at dksX7_next_11 10 rfl rfl)
theorem dX7_next_268 : decode cX7_next 268 = .ok (.getfield 22, 3) := dk_180 0 22 (dk_at dksX7_next_11 13 rfl rfl)
theorem dX7_next_271 : decode cX7_next 271 = .ok (.aload_n 0, 1) := dk_42 (dk_at dksX7_next_11 16 rfl rfl)
theorem dX7_next_272 : decode cX7_next 272 = .ok (.getfield 29, 3) := dk_180 0 29 (dk_at dksX7_next_11 17 rfl rfl)
theorem dX7_next_275 : decode cX7_next 275 = .ok (.baload, 1) := dk_51 (dk_at dksX7_next_11 20 rfl rfl)
theorem dX7_next_276 : decode cX7_next 276 = .ok (.bipush 60, 2) := dk_16 60 (dk_at dksX7_next_11 21 rfl rfl)
theorem dX7_next_278 : decode cX7_next 278 = .ok (.if_icmp .eq 37, 3) := dk_159 0 37 (dk_at dksX7_next_12 0 rfl rfl)
theorem dX7_next_281 : decode cX7_next 281 = .ok (.aload_n 0, 1) := dk_42 (dk_at dksX7_next_12 3 rfl rfl)
theorem dX7_next_282 : decode cX7_next 282 = .ok (.getfield 3, 3) := dk_180 0 3 (dk_at dksX7_next_12 4 rfl rfl)
theorem dX7_next_285 : decode cX7_next 285 = .ok (.getfield 22, 3) := dk_180 0 22 (dk_at dksX7_next_12 7 rfl rfl)
theorem dX7_next_288 : decode cX7_next 288 = .ok (.aload_n 0, 1) := dk_42 (dk_at dksX7_next_12 10 rfl rfl)
theorem dX7_next_289 : decode cX7_next 289 = .ok (.getfield 29, 3) := dk_180 0 29 (dk_at dksX7_next_12 11 rfl rfl)
theorem dX7_next_292 : decode cX7_next 292 = .ok (.baload, 1) := dk_51 (dk_at dksX7_next_12 14 rfl rfl)
theorem dX7_next_293 : decode cX7_next 293 = .ok (.bipush 62, 2) := dk_16 62 (dk_at dksX7_next_12 15 rfl rfl)
theorem dX7_next_295 : decode cX7_next 295 = .ok (.if_icmp .eq 20, 3) := dk_159 0 20 (dk_at dksX7_next_12 17 rfl rfl)
theorem dX7_next_298 : decode cX7_next 298 = .ok (.aload_n 0, 1) := dk_42 (dk_at dksX7_next_12 20 rfl rfl)
theorem dX7_next_299 : decode cX7_next 299 = .ok (.getfield 3, 3) := dk_180 0 3 (dk_at dksX7_next_12 21 rfl rfl)
theorem dX7_next_302 : decode cX7_next 302 = .ok (.getfield 22, 3) := dk_180 0 22 (dk_at dksX7_next_13 0 rfl rfl)
theorem dX7_next_305 : decode cX7_next 305 = .ok (.aload_n 0, 1) := dk_42 (dk_at dksX7_next_13 3 rfl rfl)
theorem dX7_next_306 : decode cX7_next 306 = .ok (.getfield 29, 3) := dk_180 0 29 (dk_at dksX7_next_13 4 rfl rfl)
theorem dX7_next_309 : decode cX7_next 309 = .ok (.baload, 1) := dk_51 (dk_at dksX7_next_13 7 rfl rfl)
theorem dX7_next_310 : decode cX7_next 310 = .ok (.bipush 61, 2) := dk_16 61 (dk_at dksX7_next_13 8 rfl rfl)
theorem dX7_next_312 : decode cX7_next 312 = .ok (.if_icmp .ne 7, 3) := dk_160 0 7 (dk_at dksX7_next_13 10 rfl rfl)
theorem dX7_next_315 : decode cX7_next 315 = .ok (.iconst 3, 1) := dk_6 (dk_at dksX7_next_13 13 rfl rfl)
theorem dX7_next_316 : decode cX7_next 316 = .ok (.goto 4, 3) := dk_167 0 4 (dk_at dksX7_next_13 14 rfl rfl)
theorem dX7_next_319 : decode cX7_next 319 = .ok (.iconst 4, 1) := dk_7 (dk_at dksX7_next_13 17 rfl rfl)
theorem dX7_next_320 : decode cX7_next 320 = .ok (.putfield 32, 3) := dk_181 0 32 (dk_at dksX7_next_13 18 rfl rfl)
theorem dX7_next_323 : decode cX7_next 323 = .ok (.return_, 1) := dk_177 (dk_at dksX7_next_13 21 rfl rfl)
abbrev cX7_isLetter : ByteArray := prog_9_method_2_code
def yX7_isLetter : MethodName := ⟨RX7, "isLetter", "(I)Z"⟩
def dkwX7_isLetter_1 : List UInt8 := [180, 0, 3, 180, 0, 22, 27, 51, 16, 122, 163, 0, 7, 4, 167, 0, 4, 3, 172]
abbrev dktX7_isLetter_1 : List UInt8 := dkwX7_isLetter_1 ++ []
def dkwX7_isLetter_0 : List UInt8 := [27, 42, 180, 0, 15, 162, 0, 35, 42, 180, 0, 3, 180, 0, 22, 27, 51, 16, 97, 161, 0, 21, 42]
abbrev dktX7_isLetter_0 : List UInt8 := dkwX7_isLetter_0 ++ dktX7_isLetter_1
theorem dksX7_isLetter_0 : cX7_isLetter.data.toList.drop 0 = dktX7_isLetter_0 := by decide +kernel
theorem dksX7_isLetter_1 : cX7_isLetter.data.toList.drop 23 = dktX7_isLetter_1 := dk_seg dksX7_isLetter_0 23 rfl rfl
theorem dX7_isLetter_0 : decode cX7_isLetter 0 = .ok (.iload_n 1, 1) := dk_27 (dk_at dksX7_isLetter_0 0 rfl rfl)
theorem dX7_isLetter_1 : decode cX7_isLetter 1 = .ok (.aload_n 0, 1) := dk_42 (dk_at dksX7_isLetter_0 1 rfl rfl)
theorem dX7_isLetter_2 : decode cX7_isLetter 2 = .ok (.getfield 15, 3) := dk_180 0 15 (dk_at dksX7_isLetter_0 2 rfl rfl)
theorem dX7_isLetter_5 : decode cX7_isLetter 5 = .ok (.if_icmp .ge 35, 3) := dk_162 0 35 (dk_at dksX7_isLetter_0 5 rfl rfl)
theorem dX7_isLetter_8 : decode cX7_isLetter 8 = .ok (.aload_n 0, 1) := dk_42 (dk_at dksX7_isLetter_0 8 rfl rfl)
theorem dX7_isLetter_9 : decode cX7_isLetter 9 = .ok (.getfield 3, 3) := dk_180 0 3 (dk_at dksX7_isLetter_0 9 rfl rfl)
theorem dX7_isLetter_12 : decode cX7_isLetter 12 = .ok (.getfield 22, 3) := dk_180 0 22 (dk_at dksX7_isLetter_0 12 rfl rfl)
theorem dX7_isLetter_15 : decode cX7_isLetter 15 = .ok (.iload_n 1, 1) := dk_27 (dk_at dksX7_isLetter_0 15 rfl rfl)
theorem dX7_isLetter_16 : decode cX7_isLetter 16 = .ok (.baload, 1) := dk_51 (dk_at dksX7_isLetter_0 16 rfl rfl)
theorem dX7_isLetter_17 : decode cX7_isLetter 17 = .ok (.bipush 97, 2) := dk_16 97 (dk_at dksX7_isLetter_0 17 rfl rfl)
theorem dX7_isLetter_19 : decode cX7_isLetter 19 = .ok (.if_icmp .lt 21, 3) := dk_161 0 21 (dk_at dksX7_isLetter_0 19 rfl rfl)
theorem dX7_isLetter_22 : decode cX7_isLetter 22 = .ok (.aload_n 0, 1) := dk_42 (dk_at dksX7_isLetter_0 22 rfl rfl)
theorem dX7_isLetter_23 : decode cX7_isLetter 23 = .ok (.getfield 3, 3) := dk_180 0 3 (dk_at dksX7_isLetter_1 0 rfl rfl)
theorem dX7_isLetter_26 : decode cX7_isLetter 26 = .ok (.getfield 22, 3) := dk_180 0 22 (dk_at dksX7_isLetter_1 3 rfl rfl)
theorem dX7_isLetter_29 : decode cX7_isLetter 29 = .ok (.iload_n 1, 1) := dk_27 (dk_at dksX7_isLetter_1 6 rfl rfl)
theorem dX7_isLetter_30 : decode cX7_isLetter 30 = .ok (.baload, 1) := dk_51 (dk_at dksX7_isLetter_1 7 rfl rfl)
theorem dX7_isLetter_31 : decode cX7_isLetter 31 = .ok (.bipush 122, 2) := dk_16 122 (dk_at dksX7_isLetter_1 8 rfl rfl)
theorem dX7_isLetter_33 : decode cX7_isLetter 33 = .ok (.if_icmp .gt 7, 3) := dk_163 0 7 (dk_at dksX7_isLetter_1 10 rfl rfl)
theorem dX7_isLetter_36 : decode cX7_isLetter 36 = .ok (.iconst 1, 1) := dk_4 (dk_at dksX7_isLetter_1 13 rfl rfl)
theorem dX7_isLetter_37 : decode cX7_isLetter 37 = .ok (.goto 4, 3) := dk_167 0 4 (dk_at dksX7_isLetter_1 14 rfl rfl)
theorem dX7_isLetter_40 : decode cX7_isLetter 40 = .ok (.iconst 0, 1) := dk_3 (dk_at dksX7_isLetter_1 17 rfl rfl)
theorem dX7_isLetter_41 : decode cX7_isLetter 41 = .ok (.ireturn, 1) := dk_172 (dk_at dksX7_isLetter_1 18 rfl rfl)
abbrev cX7_isDigit : ByteArray := prog_9_method_3_code
def yX7_isDigit : MethodName := ⟨RX7, "isDigit", "(I)Z"⟩
def dkwX7_isDigit_1 : List UInt8 := [180, 0, 3, 180, 0, 22, 27, 51, 16, 57, 163, 0, 7, 4, 167, 0, 4, 3, 172]
abbrev dktX7_isDigit_1 : List UInt8 := dkwX7_isDigit_1 ++ []
def dkwX7_isDigit_0 : List UInt8 := [27, 42, 180, 0, 15, 162, 0, 35, 42, 180, 0, 3, 180, 0, 22, 27, 51, 16, 48, 161, 0, 21, 42]
abbrev dktX7_isDigit_0 : List UInt8 := dkwX7_isDigit_0 ++ dktX7_isDigit_1
theorem dksX7_isDigit_0 : cX7_isDigit.data.toList.drop 0 = dktX7_isDigit_0 := by decide +kernel
theorem dksX7_isDigit_1 : cX7_isDigit.data.toList.drop 23 = dktX7_isDigit_1 := dk_seg dksX7_isDigit_0 23 rfl rfl
theorem dX7_isDigit_0 : decode cX7_isDigit 0 = .ok (.iload_n 1, 1) := dk_27 (dk_at dksX7_isDigit_0 0 rfl rfl)
theorem dX7_isDigit_1 : decode cX7_isDigit 1 = .ok (.aload_n 0, 1) := dk_42 (dk_at dksX7_isDigit_0 1 rfl rfl)
theorem dX7_isDigit_2 : decode cX7_isDigit 2 = .ok (.getfield 15, 3) := dk_180 0 15 (dk_at dksX7_isDigit_0 2 rfl rfl)
theorem dX7_isDigit_5 : decode cX7_isDigit 5 = .ok (.if_icmp .ge 35, 3) := dk_162 0 35 (dk_at dksX7_isDigit_0 5 rfl rfl)
theorem dX7_isDigit_8 : decode cX7_isDigit 8 = .ok (.aload_n 0, 1) := dk_42 (dk_at dksX7_isDigit_0 8 rfl rfl)
theorem dX7_isDigit_9 : decode cX7_isDigit 9 = .ok (.getfield 3, 3) := dk_180 0 3 (dk_at dksX7_isDigit_0 9 rfl rfl)
theorem dX7_isDigit_12 : decode cX7_isDigit 12 = .ok (.getfield 22, 3) := dk_180 0 22 (dk_at dksX7_isDigit_0 12 rfl rfl)
theorem dX7_isDigit_15 : decode cX7_isDigit 15 = .ok (.iload_n 1, 1) := dk_27 (dk_at dksX7_isDigit_0 15 rfl rfl)
theorem dX7_isDigit_16 : decode cX7_isDigit 16 = .ok (.baload, 1) := dk_51 (dk_at dksX7_isDigit_0 16 rfl rfl)
theorem dX7_isDigit_17 : decode cX7_isDigit 17 = .ok (.bipush 48, 2) := dk_16 48 (dk_at dksX7_isDigit_0 17 rfl rfl)
theorem dX7_isDigit_19 : decode cX7_isDigit 19 = .ok (.if_icmp .lt 21, 3) := dk_161 0 21 (dk_at dksX7_isDigit_0 19 rfl rfl)
theorem dX7_isDigit_22 : decode cX7_isDigit 22 = .ok (.aload_n 0, 1) := dk_42 (dk_at dksX7_isDigit_0 22 rfl rfl)
theorem dX7_isDigit_23 : decode cX7_isDigit 23 = .ok (.getfield 3, 3) := dk_180 0 3 (dk_at dksX7_isDigit_1 0 rfl rfl)
theorem dX7_isDigit_26 : decode cX7_isDigit 26 = .ok (.getfield 22, 3) := dk_180 0 22 (dk_at dksX7_isDigit_1 3 rfl rfl)
theorem dX7_isDigit_29 : decode cX7_isDigit 29 = .ok (.iload_n 1, 1) := dk_27 (dk_at dksX7_isDigit_1 6 rfl rfl)
theorem dX7_isDigit_30 : decode cX7_isDigit 30 = .ok (.baload, 1) := dk_51 (dk_at dksX7_isDigit_1 7 rfl rfl)
theorem dX7_isDigit_31 : decode cX7_isDigit 31 = .ok (.bipush 57, 2) := dk_16 57 (dk_at dksX7_isDigit_1 8 rfl rfl)
theorem dX7_isDigit_33 : decode cX7_isDigit 33 = .ok (.if_icmp .gt 7, 3) := dk_163 0 7 (dk_at dksX7_isDigit_1 10 rfl rfl)
theorem dX7_isDigit_36 : decode cX7_isDigit 36 = .ok (.iconst 1, 1) := dk_4 (dk_at dksX7_isDigit_1 13 rfl rfl)
theorem dX7_isDigit_37 : decode cX7_isDigit 37 = .ok (.goto 4, 3) := dk_167 0 4 (dk_at dksX7_isDigit_1 14 rfl rfl)
theorem dX7_isDigit_40 : decode cX7_isDigit 40 = .ok (.iconst 0, 1) := dk_3 (dk_at dksX7_isDigit_1 17 rfl rfl)
theorem dX7_isDigit_41 : decode cX7_isDigit 41 = .ok (.ireturn, 1) := dk_172 (dk_at dksX7_isDigit_1 18 rfl rfl)
abbrev cX7_boat : ByteArray := prog_9_method_21_code
def yX7_boat : MethodName := ⟨RX7, "boat", "(LIslandCall$Boat;)V"⟩
def dkwX7_boat_6 : List UInt8 := [167, 255, 118, 177]
abbrev dktX7_boat_6 : List UInt8 := dkwX7_boat_6 ++ []
def dkwX7_boat_5 : List UInt8 := [182, 0, 72, 153, 0, 11, 42, 43, 182, 0, 178, 167, 0, 8, 42, 182, 0, 68, 191, 42, 182, 0, 180]
abbrev dktX7_boat_5 : List UInt8 := dkwX7_boat_5 ++ dktX7_boat_6
def dkwX7_boat_4 : List UInt8 := [167, 0, 42, 42, 18, 115, 182, 0, 72, 153, 0, 11, 42, 43, 182, 0, 175, 167, 0, 25, 42, 18, 119]
abbrev dktX7_boat_4 : List UInt8 := dkwX7_boat_4 ++ dktX7_boat_5
def dkwX7_boat_3 : List UInt8 := [182, 0, 161, 181, 0, 169, 167, 0, 59, 42, 18, 109, 182, 0, 72, 153, 0, 11, 42, 43, 182, 0, 171]
abbrev dktX7_boat_3 : List UInt8 := dkwX7_boat_3 ++ dktX7_boat_4
def dkwX7_boat_2 : List UInt8 := [182, 0, 161, 181, 0, 167, 167, 0, 83, 42, 18, 107, 182, 0, 72, 153, 0, 18, 43, 42, 5, 3, 16, 16]
abbrev dktX7_boat_2 : List UInt8 := dkwX7_boat_2 ++ dktX7_boat_3
def dkwX7_boat_1 : List UInt8 := [182, 0, 161, 181, 0, 165, 167, 0, 106, 42, 18, 105, 182, 0, 72, 153, 0, 17, 43, 42, 4, 3, 6]
abbrev dktX7_boat_1 : List UInt8 := dkwX7_boat_1 ++ dktX7_boat_2
def dkwX7_boat_0 : List UInt8 := [42, 180, 0, 32, 153, 0, 137, 42, 18, 103, 182, 0, 72, 153, 0, 18, 43, 42, 3, 4, 16, 9]
abbrev dktX7_boat_0 : List UInt8 := dkwX7_boat_0 ++ dktX7_boat_1
theorem dksX7_boat_0 : cX7_boat.data.toList.drop 0 = dktX7_boat_0 := by decide +kernel
theorem dksX7_boat_1 : cX7_boat.data.toList.drop 22 = dktX7_boat_1 := dk_seg dksX7_boat_0 22 rfl rfl
theorem dksX7_boat_2 : cX7_boat.data.toList.drop 45 = dktX7_boat_2 := dk_seg dksX7_boat_1 23 rfl rfl
theorem dksX7_boat_3 : cX7_boat.data.toList.drop 69 = dktX7_boat_3 := dk_seg dksX7_boat_2 24 rfl rfl
theorem dksX7_boat_4 : cX7_boat.data.toList.drop 92 = dktX7_boat_4 := dk_seg dksX7_boat_3 23 rfl rfl
theorem dksX7_boat_5 : cX7_boat.data.toList.drop 115 = dktX7_boat_5 := dk_seg dksX7_boat_4 23 rfl rfl
theorem dksX7_boat_6 : cX7_boat.data.toList.drop 138 = dktX7_boat_6 := dk_seg dksX7_boat_5 23 rfl rfl
theorem dX7_boat_0 : decode cX7_boat 0 = .ok (.aload_n 0, 1) := dk_42 (dk_at dksX7_boat_0 0 rfl rfl)
theorem dX7_boat_1 : decode cX7_boat 1 = .ok (.getfield 32, 3) := dk_180 0 32 (dk_at dksX7_boat_0 1 rfl rfl)
theorem dX7_boat_4 : decode cX7_boat 4 = .ok (.ifCond .eq 137, 3) := dk_153 0 137 (dk_at dksX7_boat_0 4 rfl rfl)
theorem dX7_boat_7 : decode cX7_boat 7 = .ok (.aload_n 0, 1) := dk_42 (dk_at dksX7_boat_0 7 rfl rfl)
theorem dX7_boat_8 : decode cX7_boat 8 = .ok (.ldc 103, 2) := dk_18 103 (dk_at dksX7_boat_0 8 rfl rfl)
theorem dX7_boat_10 : decode cX7_boat 10 = .ok (.invokevirtual 72, 3) := dk_182 0 72 (dk_at dksX7_boat_0 10 rfl rfl)
theorem dX7_boat_13 : decode cX7_boat 13 = .ok (.ifCond .eq 18, 3) := dk_153 0 18 (dk_at dksX7_boat_0 13 rfl rfl)
theorem dX7_boat_16 : decode cX7_boat 16 = .ok (.aload_n 1, 1) := dk_43 (dk_at dksX7_boat_0 16 rfl rfl)
theorem dX7_boat_17 : decode cX7_boat 17 = .ok (.aload_n 0, 1) := dk_42 (dk_at dksX7_boat_0 17 rfl rfl)
theorem dX7_boat_18 : decode cX7_boat 18 = .ok (.iconst 0, 1) := dk_3 (dk_at dksX7_boat_0 18 rfl rfl)
theorem dX7_boat_19 : decode cX7_boat 19 = .ok (.iconst 1, 1) := dk_4 (dk_at dksX7_boat_0 19 rfl rfl)
theorem dX7_boat_20 : decode cX7_boat 20 = .ok (.bipush 9, 2) := dk_16 9 (dk_at dksX7_boat_0 20 rfl rfl)
theorem dX7_boat_22 : decode cX7_boat 22 = .ok (.invokevirtual 161, 3) := dk_182 0 161 (dk_at dksX7_boat_1 0 rfl rfl)
theorem dX7_boat_25 : decode cX7_boat 25 = .ok (.putfield 165, 3) := dk_181 0 165 (dk_at dksX7_boat_1 3 rfl rfl)
theorem dX7_boat_28 : decode cX7_boat 28 = .ok (.goto 106, 3) := dk_167 0 106 (dk_at dksX7_boat_1 6 rfl rfl)
theorem dX7_boat_31 : decode cX7_boat 31 = .ok (.aload_n 0, 1) := dk_42 (dk_at dksX7_boat_1 9 rfl rfl)
theorem dX7_boat_32 : decode cX7_boat 32 = .ok (.ldc 105, 2) := dk_18 105 (dk_at dksX7_boat_1 10 rfl rfl)
theorem dX7_boat_34 : decode cX7_boat 34 = .ok (.invokevirtual 72, 3) := dk_182 0 72 (dk_at dksX7_boat_1 12 rfl rfl)
theorem dX7_boat_37 : decode cX7_boat 37 = .ok (.ifCond .eq 17, 3) := dk_153 0 17 (dk_at dksX7_boat_1 15 rfl rfl)
theorem dX7_boat_40 : decode cX7_boat 40 = .ok (.aload_n 1, 1) := dk_43 (dk_at dksX7_boat_1 18 rfl rfl)
theorem dX7_boat_41 : decode cX7_boat 41 = .ok (.aload_n 0, 1) := dk_42 (dk_at dksX7_boat_1 19 rfl rfl)
theorem dX7_boat_42 : decode cX7_boat 42 = .ok (.iconst 1, 1) := dk_4 (dk_at dksX7_boat_1 20 rfl rfl)
theorem dX7_boat_43 : decode cX7_boat 43 = .ok (.iconst 0, 1) := dk_3 (dk_at dksX7_boat_1 21 rfl rfl)
theorem dX7_boat_44 : decode cX7_boat 44 = .ok (.iconst 3, 1) := dk_6 (dk_at dksX7_boat_1 22 rfl rfl)
theorem dX7_boat_45 : decode cX7_boat 45 = .ok (.invokevirtual 161, 3) := dk_182 0 161 (dk_at dksX7_boat_2 0 rfl rfl)
theorem dX7_boat_48 : decode cX7_boat 48 = .ok (.putfield 167, 3) := dk_181 0 167 (dk_at dksX7_boat_2 3 rfl rfl)
theorem dX7_boat_51 : decode cX7_boat 51 = .ok (.goto 83, 3) := dk_167 0 83 (dk_at dksX7_boat_2 6 rfl rfl)
theorem dX7_boat_54 : decode cX7_boat 54 = .ok (.aload_n 0, 1) := dk_42 (dk_at dksX7_boat_2 9 rfl rfl)
theorem dX7_boat_55 : decode cX7_boat 55 = .ok (.ldc 107, 2) := dk_18 107 (dk_at dksX7_boat_2 10 rfl rfl)
theorem dX7_boat_57 : decode cX7_boat 57 = .ok (.invokevirtual 72, 3) := dk_182 0 72 (dk_at dksX7_boat_2 12 rfl rfl)
theorem dX7_boat_60 : decode cX7_boat 60 = .ok (.ifCond .eq 18, 3) := dk_153 0 18 (dk_at dksX7_boat_2 15 rfl rfl)
theorem dX7_boat_63 : decode cX7_boat 63 = .ok (.aload_n 1, 1) := dk_43 (dk_at dksX7_boat_2 18 rfl rfl)
theorem dX7_boat_64 : decode cX7_boat 64 = .ok (.aload_n 0, 1) := dk_42 (dk_at dksX7_boat_2 19 rfl rfl)
theorem dX7_boat_65 : decode cX7_boat 65 = .ok (.iconst 2, 1) := dk_5 (dk_at dksX7_boat_2 20 rfl rfl)
theorem dX7_boat_66 : decode cX7_boat 66 = .ok (.iconst 0, 1) := dk_3 (dk_at dksX7_boat_2 21 rfl rfl)
theorem dX7_boat_67 : decode cX7_boat 67 = .ok (.bipush 16, 2) := dk_16 16 (dk_at dksX7_boat_2 22 rfl rfl)
theorem dX7_boat_69 : decode cX7_boat 69 = .ok (.invokevirtual 161, 3) := dk_182 0 161 (dk_at dksX7_boat_3 0 rfl rfl)
theorem dX7_boat_72 : decode cX7_boat 72 = .ok (.putfield 169, 3) := dk_181 0 169 (dk_at dksX7_boat_3 3 rfl rfl)
theorem dX7_boat_75 : decode cX7_boat 75 = .ok (.goto 59, 3) := dk_167 0 59 (dk_at dksX7_boat_3 6 rfl rfl)
theorem dX7_boat_78 : decode cX7_boat 78 = .ok (.aload_n 0, 1) := dk_42 (dk_at dksX7_boat_3 9 rfl rfl)
theorem dX7_boat_79 : decode cX7_boat 79 = .ok (.ldc 109, 2) := dk_18 109 (dk_at dksX7_boat_3 10 rfl rfl)
theorem dX7_boat_81 : decode cX7_boat 81 = .ok (.invokevirtual 72, 3) := dk_182 0 72 (dk_at dksX7_boat_3 12 rfl rfl)
theorem dX7_boat_84 : decode cX7_boat 84 = .ok (.ifCond .eq 11, 3) := dk_153 0 11 (dk_at dksX7_boat_3 15 rfl rfl)
theorem dX7_boat_87 : decode cX7_boat 87 = .ok (.aload_n 0, 1) := dk_42 (dk_at dksX7_boat_3 18 rfl rfl)
theorem dX7_boat_88 : decode cX7_boat 88 = .ok (.aload_n 1, 1) := dk_43 (dk_at dksX7_boat_3 19 rfl rfl)
theorem dX7_boat_89 : decode cX7_boat 89 = .ok (.invokevirtual 171, 3) := dk_182 0 171 (dk_at dksX7_boat_3 20 rfl rfl)
theorem dX7_boat_92 : decode cX7_boat 92 = .ok (.goto 42, 3) := dk_167 0 42 (dk_at dksX7_boat_4 0 rfl rfl)
theorem dX7_boat_95 : decode cX7_boat 95 = .ok (.aload_n 0, 1) := dk_42 (dk_at dksX7_boat_4 3 rfl rfl)
theorem dX7_boat_96 : decode cX7_boat 96 = .ok (.ldc 115, 2) := dk_18 115 (dk_at dksX7_boat_4 4 rfl rfl)
theorem dX7_boat_98 : decode cX7_boat 98 = .ok (.invokevirtual 72, 3) := dk_182 0 72 (dk_at dksX7_boat_4 6 rfl rfl)
theorem dX7_boat_101 : decode cX7_boat 101 = .ok (.ifCond .eq 11, 3) := dk_153 0 11 (dk_at dksX7_boat_4 9 rfl rfl)
theorem dX7_boat_104 : decode cX7_boat 104 = .ok (.aload_n 0, 1) := dk_42 (dk_at dksX7_boat_4 12 rfl rfl)
theorem dX7_boat_105 : decode cX7_boat 105 = .ok (.aload_n 1, 1) := dk_43 (dk_at dksX7_boat_4 13 rfl rfl)
theorem dX7_boat_106 : decode cX7_boat 106 = .ok (.invokevirtual 175, 3) := dk_182 0 175 (dk_at dksX7_boat_4 14 rfl rfl)
theorem dX7_boat_109 : decode cX7_boat 109 = .ok (.goto 25, 3) := dk_167 0 25 (dk_at dksX7_boat_4 17 rfl rfl)
theorem dX7_boat_112 : decode cX7_boat 112 = .ok (.aload_n 0, 1) := dk_42 (dk_at dksX7_boat_4 20 rfl rfl)
theorem dX7_boat_113 : decode cX7_boat 113 = .ok (.ldc 119, 2) := dk_18 119 (dk_at dksX7_boat_4 21 rfl rfl)
theorem dX7_boat_115 : decode cX7_boat 115 = .ok (.invokevirtual 72, 3) := dk_182 0 72 (dk_at dksX7_boat_5 0 rfl rfl)
theorem dX7_boat_118 : decode cX7_boat 118 = .ok (.ifCond .eq 11, 3) := dk_153 0 11 (dk_at dksX7_boat_5 3 rfl rfl)
theorem dX7_boat_121 : decode cX7_boat 121 = .ok (.aload_n 0, 1) := dk_42 (dk_at dksX7_boat_5 6 rfl rfl)
theorem dX7_boat_122 : decode cX7_boat 122 = .ok (.aload_n 1, 1) := dk_43 (dk_at dksX7_boat_5 7 rfl rfl)
theorem dX7_boat_123 : decode cX7_boat 123 = .ok (.invokevirtual 178, 3) := dk_182 0 178 (dk_at dksX7_boat_5 8 rfl rfl)
theorem dX7_boat_126 : decode cX7_boat 126 = .ok (.goto 8, 3) := dk_167 0 8 (dk_at dksX7_boat_5 11 rfl rfl)
theorem dX7_boat_129 : decode cX7_boat 129 = .ok (.aload_n 0, 1) := dk_42 (dk_at dksX7_boat_5 14 rfl rfl)
theorem dX7_boat_130 : decode cX7_boat 130 = .ok (.invokevirtual 68, 3) := dk_182 0 68 (dk_at dksX7_boat_5 15 rfl rfl)
theorem dX7_boat_133 : decode cX7_boat 133 = .ok (.athrow, 1) := dk_191 (dk_at dksX7_boat_5 18 rfl rfl)
theorem dX7_boat_134 : decode cX7_boat 134 = .ok (.aload_n 0, 1) := dk_42 (dk_at dksX7_boat_5 19 rfl rfl)
theorem dX7_boat_135 : decode cX7_boat 135 = .ok (.invokevirtual 180, 3) := dk_182 0 180 (dk_at dksX7_boat_5 20 rfl rfl)
theorem dX7_boat_138 : decode cX7_boat 138 = .ok (.goto (-138), 3) := dk_167 255 118 (dk_at dksX7_boat_6 0 rfl rfl)
theorem dX7_boat_141 : decode cX7_boat 141 = .ok (.return_, 1) := dk_177 (dk_at dksX7_boat_6 3 rfl rfl)
abbrev cX7_isWord : ByteArray := prog_9_method_5_code
def yX7_isWord : MethodName := ⟨RX7, "isWord", "(Ljava/lang/String;)Z"⟩
def dkwX7_isWord_2 : List UInt8 := [96, 51, 43, 28, 182, 0, 51, 159, 0, 5, 3, 172, 132, 2, 1, 167, 255, 221, 4, 172]
abbrev dktX7_isWord_2 : List UInt8 := dkwX7_isWord_2 ++ []
def dkwX7_isWord_1 : List UInt8 := [3, 172, 3, 61, 28, 43, 182, 0, 45, 162, 0, 33, 42, 180, 0, 3, 180, 0, 22, 42, 180, 0, 29, 28]
abbrev dktX7_isWord_1 : List UInt8 := dkwX7_isWord_1 ++ dktX7_isWord_2
def dkwX7_isWord_0 : List UInt8 := [42, 180, 0, 32, 4, 160, 0, 19, 42, 180, 0, 26, 42, 180, 0, 29, 100, 43, 182, 0, 45, 159, 0, 5]
abbrev dktX7_isWord_0 : List UInt8 := dkwX7_isWord_0 ++ dktX7_isWord_1
theorem dksX7_isWord_0 : cX7_isWord.data.toList.drop 0 = dktX7_isWord_0 := by decide +kernel
theorem dksX7_isWord_1 : cX7_isWord.data.toList.drop 24 = dktX7_isWord_1 := dk_seg dksX7_isWord_0 24 rfl rfl
theorem dksX7_isWord_2 : cX7_isWord.data.toList.drop 48 = dktX7_isWord_2 := dk_seg dksX7_isWord_1 24 rfl rfl
theorem dX7_isWord_0 : decode cX7_isWord 0 = .ok (.aload_n 0, 1) := dk_42 (dk_at dksX7_isWord_0 0 rfl rfl)
theorem dX7_isWord_1 : decode cX7_isWord 1 = .ok (.getfield 32, 3) := dk_180 0 32 (dk_at dksX7_isWord_0 1 rfl rfl)
theorem dX7_isWord_4 : decode cX7_isWord 4 = .ok (.iconst 1, 1) := dk_4 (dk_at dksX7_isWord_0 4 rfl rfl)
theorem dX7_isWord_5 : decode cX7_isWord 5 = .ok (.if_icmp .ne 19, 3) := dk_160 0 19 (dk_at dksX7_isWord_0 5 rfl rfl)
theorem dX7_isWord_8 : decode cX7_isWord 8 = .ok (.aload_n 0, 1) := dk_42 (dk_at dksX7_isWord_0 8 rfl rfl)
theorem dX7_isWord_9 : decode cX7_isWord 9 = .ok (.getfield 26, 3) := dk_180 0 26 (dk_at dksX7_isWord_0 9 rfl rfl)
theorem dX7_isWord_12 : decode cX7_isWord 12 = .ok (.aload_n 0, 1) := dk_42 (dk_at dksX7_isWord_0 12 rfl rfl)
theorem dX7_isWord_13 : decode cX7_isWord 13 = .ok (.getfield 29, 3) := dk_180 0 29 (dk_at dksX7_isWord_0 13 rfl rfl)
theorem dX7_isWord_16 : decode cX7_isWord 16 = .ok (.isub, 1) := dk_100 (dk_at dksX7_isWord_0 16 rfl rfl)
theorem dX7_isWord_17 : decode cX7_isWord 17 = .ok (.aload_n 1, 1) := dk_43 (dk_at dksX7_isWord_0 17 rfl rfl)
theorem dX7_isWord_18 : decode cX7_isWord 18 = .ok (.invokevirtual 45, 3) := dk_182 0 45 (dk_at dksX7_isWord_0 18 rfl rfl)
theorem dX7_isWord_21 : decode cX7_isWord 21 = .ok (.if_icmp .eq 5, 3) := dk_159 0 5 (dk_at dksX7_isWord_0 21 rfl rfl)
theorem dX7_isWord_24 : decode cX7_isWord 24 = .ok (.iconst 0, 1) := dk_3 (dk_at dksX7_isWord_1 0 rfl rfl)
theorem dX7_isWord_25 : decode cX7_isWord 25 = .ok (.ireturn, 1) := dk_172 (dk_at dksX7_isWord_1 1 rfl rfl)
theorem dX7_isWord_26 : decode cX7_isWord 26 = .ok (.iconst 0, 1) := dk_3 (dk_at dksX7_isWord_1 2 rfl rfl)
theorem dX7_isWord_27 : decode cX7_isWord 27 = .ok (.istore_n 2, 1) := dk_61 (dk_at dksX7_isWord_1 3 rfl rfl)
theorem dX7_isWord_28 : decode cX7_isWord 28 = .ok (.iload_n 2, 1) := dk_28 (dk_at dksX7_isWord_1 4 rfl rfl)
theorem dX7_isWord_29 : decode cX7_isWord 29 = .ok (.aload_n 1, 1) := dk_43 (dk_at dksX7_isWord_1 5 rfl rfl)
theorem dX7_isWord_30 : decode cX7_isWord 30 = .ok (.invokevirtual 45, 3) := dk_182 0 45 (dk_at dksX7_isWord_1 6 rfl rfl)
theorem dX7_isWord_33 : decode cX7_isWord 33 = .ok (.if_icmp .ge 33, 3) := dk_162 0 33 (dk_at dksX7_isWord_1 9 rfl rfl)
theorem dX7_isWord_36 : decode cX7_isWord 36 = .ok (.aload_n 0, 1) := dk_42 (dk_at dksX7_isWord_1 12 rfl rfl)
theorem dX7_isWord_37 : decode cX7_isWord 37 = .ok (.getfield 3, 3) := dk_180 0 3 (dk_at dksX7_isWord_1 13 rfl rfl)
theorem dX7_isWord_40 : decode cX7_isWord 40 = .ok (.getfield 22, 3) := dk_180 0 22 (dk_at dksX7_isWord_1 16 rfl rfl)
theorem dX7_isWord_43 : decode cX7_isWord 43 = .ok (.aload_n 0, 1) := dk_42 (dk_at dksX7_isWord_1 19 rfl rfl)
theorem dX7_isWord_44 : decode cX7_isWord 44 = .ok (.getfield 29, 3) := dk_180 0 29 (dk_at dksX7_isWord_1 20 rfl rfl)
theorem dX7_isWord_47 : decode cX7_isWord 47 = .ok (.iload_n 2, 1) := dk_28 (dk_at dksX7_isWord_1 23 rfl rfl)
theorem dX7_isWord_48 : decode cX7_isWord 48 = .ok (.iadd, 1) := dk_96 (dk_at dksX7_isWord_2 0 rfl rfl)
theorem dX7_isWord_49 : decode cX7_isWord 49 = .ok (.baload, 1) := dk_51 (dk_at dksX7_isWord_2 1 rfl rfl)
theorem dX7_isWord_50 : decode cX7_isWord 50 = .ok (.aload_n 1, 1) := dk_43 (dk_at dksX7_isWord_2 2 rfl rfl)
theorem dX7_isWord_51 : decode cX7_isWord 51 = .ok (.iload_n 2, 1) := dk_28 (dk_at dksX7_isWord_2 3 rfl rfl)
theorem dX7_isWord_52 : decode cX7_isWord 52 = .ok (.invokevirtual 51, 3) := dk_182 0 51 (dk_at dksX7_isWord_2 4 rfl rfl)
theorem dX7_isWord_55 : decode cX7_isWord 55 = .ok (.if_icmp .eq 5, 3) := dk_159 0 5 (dk_at dksX7_isWord_2 7 rfl rfl)
theorem dX7_isWord_58 : decode cX7_isWord 58 = .ok (.iconst 0, 1) := dk_3 (dk_at dksX7_isWord_2 10 rfl rfl)
theorem dX7_isWord_59 : decode cX7_isWord 59 = .ok (.ireturn, 1) := dk_172 (dk_at dksX7_isWord_2 11 rfl rfl)
theorem dX7_isWord_60 : decode cX7_isWord 60 = .ok (.iinc 2 1, 3) := dk_132 2 1 (dk_at dksX7_isWord_2 12 rfl rfl)
theorem dX7_isWord_63 : decode cX7_isWord 63 = .ok (.goto (-35), 3) := dk_167 255 221 (dk_at dksX7_isWord_2 15 rfl rfl)
theorem dX7_isWord_66 : decode cX7_isWord 66 = .ok (.iconst 1, 1) := dk_4 (dk_at dksX7_isWord_2 18 rfl rfl)
theorem dX7_isWord_67 : decode cX7_isWord 67 = .ok (.ireturn, 1) := dk_172 (dk_at dksX7_isWord_2 19 rfl rfl)
abbrev cX7_once : ByteArray := prog_9_method_22_code
def yX7_once : MethodName := ⟨RX7, "once", "(III)I"⟩
def dkwX7_once_2 : List UInt8 := [182, 0, 80, 172]
abbrev dktX7_once_2 : List UInt8 := dkwX7_once_2 ++ []
def dkwX7_once_1 : List UInt8 := [182, 0, 59, 191, 42, 89, 180, 0, 183, 4, 27, 120, 128, 181, 0, 183, 42, 182, 0, 19, 42, 28, 29]
abbrev dktX7_once_1 : List UInt8 := dkwX7_once_1 ++ dktX7_once_2
def dkwX7_once_0 : List UInt8 := [42, 180, 0, 183, 27, 184, 0, 154, 153, 0, 19, 42, 180, 0, 3, 180, 0, 55, 8, 42, 180, 0, 29]
abbrev dktX7_once_0 : List UInt8 := dkwX7_once_0 ++ dktX7_once_1
theorem dksX7_once_0 : cX7_once.data.toList.drop 0 = dktX7_once_0 := by decide +kernel
theorem dksX7_once_1 : cX7_once.data.toList.drop 23 = dktX7_once_1 := dk_seg dksX7_once_0 23 rfl rfl
theorem dksX7_once_2 : cX7_once.data.toList.drop 46 = dktX7_once_2 := dk_seg dksX7_once_1 23 rfl rfl
theorem dX7_once_0 : decode cX7_once 0 = .ok (.aload_n 0, 1) := dk_42 (dk_at dksX7_once_0 0 rfl rfl)
theorem dX7_once_1 : decode cX7_once 1 = .ok (.getfield 183, 3) := dk_180 0 183 (dk_at dksX7_once_0 1 rfl rfl)
theorem dX7_once_4 : decode cX7_once 4 = .ok (.iload_n 1, 1) := dk_27 (dk_at dksX7_once_0 4 rfl rfl)
theorem dX7_once_5 : decode cX7_once 5 = .ok (.invokestatic 154, 3) := dk_184 0 154 (dk_at dksX7_once_0 5 rfl rfl)
theorem dX7_once_8 : decode cX7_once 8 = .ok (.ifCond .eq 19, 3) := dk_153 0 19 (dk_at dksX7_once_0 8 rfl rfl)
theorem dX7_once_11 : decode cX7_once 11 = .ok (.aload_n 0, 1) := dk_42 (dk_at dksX7_once_0 11 rfl rfl)
theorem dX7_once_12 : decode cX7_once 12 = .ok (.getfield 3, 3) := dk_180 0 3 (dk_at dksX7_once_0 12 rfl rfl)
theorem dX7_once_15 : decode cX7_once 15 = .ok (.getfield 55, 3) := dk_180 0 55 (dk_at dksX7_once_0 15 rfl rfl)
theorem dX7_once_18 : decode cX7_once 18 = .ok (.iconst 5, 1) := dk_8 (dk_at dksX7_once_0 18 rfl rfl)
theorem dX7_once_19 : decode cX7_once 19 = .ok (.aload_n 0, 1) := dk_42 (dk_at dksX7_once_0 19 rfl rfl)
theorem dX7_once_20 : decode cX7_once 20 = .ok (.getfield 29, 3) := dk_180 0 29 (dk_at dksX7_once_0 20 rfl rfl)
theorem dX7_once_23 : decode cX7_once 23 = .ok (.invokevirtual 59, 3) := dk_182 0 59 (dk_at dksX7_once_1 0 rfl rfl)
theorem dX7_once_26 : decode cX7_once 26 = .ok (.athrow, 1) := dk_191 (dk_at dksX7_once_1 3 rfl rfl)
theorem dX7_once_27 : decode cX7_once 27 = .ok (.aload_n 0, 1) := dk_42 (dk_at dksX7_once_1 4 rfl rfl)
theorem dX7_once_28 : decode cX7_once 28 = .ok (.dup, 1) := dk_89 (dk_at dksX7_once_1 5 rfl rfl)
theorem dX7_once_29 : decode cX7_once 29 = .ok (.getfield 183, 3) := dk_180 0 183 (dk_at dksX7_once_1 6 rfl rfl)
theorem dX7_once_32 : decode cX7_once 32 = .ok (.iconst 1, 1) := dk_4 (dk_at dksX7_once_1 9 rfl rfl)
theorem dX7_once_33 : decode cX7_once 33 = .ok (.iload_n 1, 1) := dk_27 (dk_at dksX7_once_1 10 rfl rfl)
theorem dX7_once_34 : decode cX7_once 34 = .ok (.ishl, 1) := dk_120 (dk_at dksX7_once_1 11 rfl rfl)
theorem dX7_once_35 : decode cX7_once 35 = .ok (.ior, 1) := dk_128 (dk_at dksX7_once_1 12 rfl rfl)
theorem dX7_once_36 : decode cX7_once 36 = .ok (.putfield 183, 3) := dk_181 0 183 (dk_at dksX7_once_1 13 rfl rfl)
theorem dX7_once_39 : decode cX7_once 39 = .ok (.aload_n 0, 1) := dk_42 (dk_at dksX7_once_1 16 rfl rfl)
theorem dX7_once_40 : decode cX7_once 40 = .ok (.invokevirtual 19, 3) := dk_182 0 19 (dk_at dksX7_once_1 17 rfl rfl)
theorem dX7_once_43 : decode cX7_once 43 = .ok (.aload_n 0, 1) := dk_42 (dk_at dksX7_once_1 20 rfl rfl)
theorem dX7_once_44 : decode cX7_once 44 = .ok (.iload_n 2, 1) := dk_28 (dk_at dksX7_once_1 21 rfl rfl)
theorem dX7_once_45 : decode cX7_once 45 = .ok (.iload_n 3, 1) := dk_29 (dk_at dksX7_once_1 22 rfl rfl)
theorem dX7_once_46 : decode cX7_once 46 = .ok (.invokevirtual 80, 3) := dk_182 0 80 (dk_at dksX7_once_2 0 rfl rfl)
theorem dX7_once_49 : decode cX7_once 49 = .ok (.ireturn, 1) := dk_172 (dk_at dksX7_once_2 3 rfl rfl)
abbrev cX7_number : ByteArray := prog_9_method_10_code
def yX7_number : MethodName := ⟨RX7, "number", "(II)I"⟩
def dkwX7_number_2 : List UInt8 := [180, 0, 42, 62, 42, 182, 0, 19, 29, 172]
abbrev dktX7_number_2 : List UInt8 := dkwX7_number_2 ++ []
def dkwX7_number_1 : List UInt8 := [180, 0, 42, 28, 164, 0, 19, 42, 180, 0, 3, 180, 0, 55, 7, 42, 180, 0, 29, 182, 0, 59, 191, 42]
abbrev dktX7_number_1 : List UInt8 := dkwX7_number_1 ++ dktX7_number_2
def dkwX7_number_0 : List UInt8 := [42, 180, 0, 32, 5, 159, 0, 8, 42, 182, 0, 68, 191, 42, 180, 0, 42, 27, 161, 0, 11, 42]
abbrev dktX7_number_0 : List UInt8 := dkwX7_number_0 ++ dktX7_number_1
theorem dksX7_number_0 : cX7_number.data.toList.drop 0 = dktX7_number_0 := by decide +kernel
theorem dksX7_number_1 : cX7_number.data.toList.drop 22 = dktX7_number_1 := dk_seg dksX7_number_0 22 rfl rfl
theorem dksX7_number_2 : cX7_number.data.toList.drop 46 = dktX7_number_2 := dk_seg dksX7_number_1 24 rfl rfl
theorem dX7_number_0 : decode cX7_number 0 = .ok (.aload_n 0, 1) := dk_42 (dk_at dksX7_number_0 0 rfl rfl)
theorem dX7_number_1 : decode cX7_number 1 = .ok (.getfield 32, 3) := dk_180 0 32 (dk_at dksX7_number_0 1 rfl rfl)
theorem dX7_number_4 : decode cX7_number 4 = .ok (.iconst 2, 1) := dk_5 (dk_at dksX7_number_0 4 rfl rfl)
theorem dX7_number_5 : decode cX7_number 5 = .ok (.if_icmp .eq 8, 3) := dk_159 0 8 (dk_at dksX7_number_0 5 rfl rfl)
theorem dX7_number_8 : decode cX7_number 8 = .ok (.aload_n 0, 1) := dk_42 (dk_at dksX7_number_0 8 rfl rfl)
theorem dX7_number_9 : decode cX7_number 9 = .ok (.invokevirtual 68, 3) := dk_182 0 68 (dk_at dksX7_number_0 9 rfl rfl)
theorem dX7_number_12 : decode cX7_number 12 = .ok (.athrow, 1) := dk_191 (dk_at dksX7_number_0 12 rfl rfl)
theorem dX7_number_13 : decode cX7_number 13 = .ok (.aload_n 0, 1) := dk_42 (dk_at dksX7_number_0 13 rfl rfl)
theorem dX7_number_14 : decode cX7_number 14 = .ok (.getfield 42, 3) := dk_180 0 42 (dk_at dksX7_number_0 14 rfl rfl)
theorem dX7_number_17 : decode cX7_number 17 = .ok (.iload_n 1, 1) := dk_27 (dk_at dksX7_number_0 17 rfl rfl)
theorem dX7_number_18 : decode cX7_number 18 = .ok (.if_icmp .lt 11, 3) := dk_161 0 11 (dk_at dksX7_number_0 18 rfl rfl)
theorem dX7_number_21 : decode cX7_number 21 = .ok (.aload_n 0, 1) := dk_42 (dk_at dksX7_number_0 21 rfl rfl)
theorem dX7_number_22 : decode cX7_number 22 = .ok (.getfield 42, 3) := dk_180 0 42 (dk_at dksX7_number_1 0 rfl rfl)
theorem dX7_number_25 : decode cX7_number 25 = .ok (.iload_n 2, 1) := dk_28 (dk_at dksX7_number_1 3 rfl rfl)
theorem dX7_number_26 : decode cX7_number 26 = .ok (.if_icmp .le 19, 3) := dk_164 0 19 (dk_at dksX7_number_1 4 rfl rfl)
theorem dX7_number_29 : decode cX7_number 29 = .ok (.aload_n 0, 1) := dk_42 (dk_at dksX7_number_1 7 rfl rfl)
theorem dX7_number_30 : decode cX7_number 30 = .ok (.getfield 3, 3) := dk_180 0 3 (dk_at dksX7_number_1 8 rfl rfl)
theorem dX7_number_33 : decode cX7_number 33 = .ok (.getfield 55, 3) := dk_180 0 55 (dk_at dksX7_number_1 11 rfl rfl)
theorem dX7_number_36 : decode cX7_number 36 = .ok (.iconst 4, 1) := dk_7 (dk_at dksX7_number_1 14 rfl rfl)
theorem dX7_number_37 : decode cX7_number 37 = .ok (.aload_n 0, 1) := dk_42 (dk_at dksX7_number_1 15 rfl rfl)
theorem dX7_number_38 : decode cX7_number 38 = .ok (.getfield 29, 3) := dk_180 0 29 (dk_at dksX7_number_1 16 rfl rfl)
theorem dX7_number_41 : decode cX7_number 41 = .ok (.invokevirtual 59, 3) := dk_182 0 59 (dk_at dksX7_number_1 19 rfl rfl)
theorem dX7_number_44 : decode cX7_number 44 = .ok (.athrow, 1) := dk_191 (dk_at dksX7_number_1 22 rfl rfl)
theorem dX7_number_45 : decode cX7_number 45 = .ok (.aload_n 0, 1) := dk_42 (dk_at dksX7_number_1 23 rfl rfl)
theorem dX7_number_46 : decode cX7_number 46 = .ok (.getfield 42, 3) := dk_180 0 42 (dk_at dksX7_number_2 0 rfl rfl)
theorem dX7_number_49 : decode cX7_number 49 = .ok (.istore_n 3, 1) := dk_62 (dk_at dksX7_number_2 3 rfl rfl)
theorem dX7_number_50 : decode cX7_number 50 = .ok (.aload_n 0, 1) := dk_42 (dk_at dksX7_number_2 4 rfl rfl)
theorem dX7_number_51 : decode cX7_number 51 = .ok (.invokevirtual 19, 3) := dk_182 0 19 (dk_at dksX7_number_2 5 rfl rfl)
theorem dX7_number_54 : decode cX7_number 54 = .ok (.iload_n 3, 1) := dk_29 (dk_at dksX7_number_2 8 rfl rfl)
theorem dX7_number_55 : decode cX7_number 55 = .ok (.ireturn, 1) := dk_172 (dk_at dksX7_number_2 9 rfl rfl)
abbrev cX7_wrong : ByteArray := prog_9_method_7_code
def yX7_wrong : MethodName := ⟨RX7, "wrong", "()LIslandCall$Bad;"⟩
def dkwX7_wrong_1 : List UInt8 := [182, 0, 59, 176]
abbrev dktX7_wrong_1 : List UInt8 := dkwX7_wrong_1 ++ []
def dkwX7_wrong_0 : List UInt8 := [42, 180, 0, 3, 180, 0, 55, 42, 180, 0, 32, 7, 160, 0, 7, 4, 167, 0, 4, 5, 42, 180, 0, 29]
abbrev dktX7_wrong_0 : List UInt8 := dkwX7_wrong_0 ++ dktX7_wrong_1
theorem dksX7_wrong_0 : cX7_wrong.data.toList.drop 0 = dktX7_wrong_0 := by decide +kernel
theorem dksX7_wrong_1 : cX7_wrong.data.toList.drop 24 = dktX7_wrong_1 := dk_seg dksX7_wrong_0 24 rfl rfl
theorem dX7_wrong_0 : decode cX7_wrong 0 = .ok (.aload_n 0, 1) := dk_42 (dk_at dksX7_wrong_0 0 rfl rfl)
theorem dX7_wrong_1 : decode cX7_wrong 1 = .ok (.getfield 3, 3) := dk_180 0 3 (dk_at dksX7_wrong_0 1 rfl rfl)
theorem dX7_wrong_4 : decode cX7_wrong 4 = .ok (.getfield 55, 3) := dk_180 0 55 (dk_at dksX7_wrong_0 4 rfl rfl)
theorem dX7_wrong_7 : decode cX7_wrong 7 = .ok (.aload_n 0, 1) := dk_42 (dk_at dksX7_wrong_0 7 rfl rfl)
theorem dX7_wrong_8 : decode cX7_wrong 8 = .ok (.getfield 32, 3) := dk_180 0 32 (dk_at dksX7_wrong_0 8 rfl rfl)
theorem dX7_wrong_11 : decode cX7_wrong 11 = .ok (.iconst 4, 1) := dk_7 (dk_at dksX7_wrong_0 11 rfl rfl)
theorem dX7_wrong_12 : decode cX7_wrong 12 = .ok (.if_icmp .ne 7, 3) := dk_160 0 7 (dk_at dksX7_wrong_0 12 rfl rfl)
theorem dX7_wrong_15 : decode cX7_wrong 15 = .ok (.iconst 1, 1) := dk_4 (dk_at dksX7_wrong_0 15 rfl rfl)
theorem dX7_wrong_16 : decode cX7_wrong 16 = .ok (.goto 4, 3) := dk_167 0 4 (dk_at dksX7_wrong_0 16 rfl rfl)
theorem dX7_wrong_19 : decode cX7_wrong 19 = .ok (.iconst 2, 1) := dk_5 (dk_at dksX7_wrong_0 19 rfl rfl)
theorem dX7_wrong_20 : decode cX7_wrong 20 = .ok (.aload_n 0, 1) := dk_42 (dk_at dksX7_wrong_0 20 rfl rfl)
theorem dX7_wrong_21 : decode cX7_wrong 21 = .ok (.getfield 29, 3) := dk_180 0 29 (dk_at dksX7_wrong_0 21 rfl rfl)
theorem dX7_wrong_24 : decode cX7_wrong 24 = .ok (.invokevirtual 59, 3) := dk_182 0 59 (dk_at dksX7_wrong_1 0 rfl rfl)
theorem dX7_wrong_27 : decode cX7_wrong 27 = .ok (.areturn, 1) := dk_176 (dk_at dksX7_wrong_1 3 rfl rfl)
abbrev cX7_newOmen : ByteArray := prog_9_method_23_code
def yX7_newOmen : MethodName := ⟨RX7, "newOmen", "(LIslandCall$Boat;)V"⟩
def dkwX7_newOmen_3 : List UInt8 := [180, 0, 186, 4, 96, 181, 0, 186, 177]
abbrev dktX7_newOmen_3 : List UInt8 := dkwX7_newOmen_3 ++ []
def dkwX7_newOmen_2 : List UInt8 := [153, 0, 9, 4, 28, 120, 167, 0, 4, 3, 128, 181, 0, 200, 43, 180, 0, 205, 28, 33, 80, 43, 89]
abbrev dktX7_newOmen_2 : List UInt8 := dkwX7_newOmen_2 ++ dktX7_newOmen_3
def dkwX7_newOmen_1 : List UInt8 := [180, 0, 193, 28, 42, 18, 111, 4, 8, 182, 0, 197, 79, 43, 89, 180, 0, 200, 42, 18, 113, 182, 0, 202]
abbrev dktX7_newOmen_1 : List UInt8 := dkwX7_newOmen_1 ++ dktX7_newOmen_2
def dkwX7_newOmen_0 : List UInt8 := [43, 180, 0, 186, 61, 42, 43, 28, 16, 6, 162, 0, 7, 4, 167, 0, 4, 3, 182, 0, 189, 66, 43]
abbrev dktX7_newOmen_0 : List UInt8 := dkwX7_newOmen_0 ++ dktX7_newOmen_1
theorem dksX7_newOmen_0 : cX7_newOmen.data.toList.drop 0 = dktX7_newOmen_0 := by decide +kernel
theorem dksX7_newOmen_1 : cX7_newOmen.data.toList.drop 23 = dktX7_newOmen_1 := dk_seg dksX7_newOmen_0 23 rfl rfl
theorem dksX7_newOmen_2 : cX7_newOmen.data.toList.drop 47 = dktX7_newOmen_2 := dk_seg dksX7_newOmen_1 24 rfl rfl
theorem dksX7_newOmen_3 : cX7_newOmen.data.toList.drop 70 = dktX7_newOmen_3 := dk_seg dksX7_newOmen_2 23 rfl rfl
theorem dX7_newOmen_0 : decode cX7_newOmen 0 = .ok (.aload_n 1, 1) := dk_43 (dk_at dksX7_newOmen_0 0 rfl rfl)
theorem dX7_newOmen_1 : decode cX7_newOmen 1 = .ok (.getfield 186, 3) := dk_180 0 186 (dk_at dksX7_newOmen_0 1 rfl rfl)
theorem dX7_newOmen_4 : decode cX7_newOmen 4 = .ok (.istore_n 2, 1) := dk_61 (dk_at dksX7_newOmen_0 4 rfl rfl)
theorem dX7_newOmen_5 : decode cX7_newOmen 5 = .ok (.aload_n 0, 1) := dk_42 (dk_at dksX7_newOmen_0 5 rfl rfl)
theorem dX7_newOmen_6 : decode cX7_newOmen 6 = .ok (.aload_n 1, 1) := dk_43 (dk_at dksX7_newOmen_0 6 rfl rfl)
theorem dX7_newOmen_7 : decode cX7_newOmen 7 = .ok (.iload_n 2, 1) := dk_28 (dk_at dksX7_newOmen_0 7 rfl rfl)
theorem dX7_newOmen_8 : decode cX7_newOmen 8 = .ok (.bipush 6, 2) := dk_16 6 (dk_at dksX7_newOmen_0 8 rfl rfl)
theorem dX7_newOmen_10 : decode cX7_newOmen 10 = .ok (.if_icmp .ge 7, 3) := dk_162 0 7 (dk_at dksX7_newOmen_0 10 rfl rfl)
theorem dX7_newOmen_13 : decode cX7_newOmen 13 = .ok (.iconst 1, 1) := dk_4 (dk_at dksX7_newOmen_0 13 rfl rfl)
theorem dX7_newOmen_14 : decode cX7_newOmen 14 = .ok (.goto 4, 3) := dk_167 0 4 (dk_at dksX7_newOmen_0 14 rfl rfl)
theorem dX7_newOmen_17 : decode cX7_newOmen 17 = .ok (.iconst 0, 1) := dk_3 (dk_at dksX7_newOmen_0 17 rfl rfl)
theorem dX7_newOmen_18 : decode cX7_newOmen 18 = .ok (.invokevirtual 189, 3) := dk_182 0 189 (dk_at dksX7_newOmen_0 18 rfl rfl)
theorem dX7_newOmen_21 : decode cX7_newOmen 21 = .ok (.lstore_n 3, 1) := dk_66 (dk_at dksX7_newOmen_0 21 rfl rfl)
theorem dX7_newOmen_22 : decode cX7_newOmen 22 = .ok (.aload_n 1, 1) := dk_43 (dk_at dksX7_newOmen_0 22 rfl rfl)
theorem dX7_newOmen_23 : decode cX7_newOmen 23 = .ok (.getfield 193, 3) := dk_180 0 193 (dk_at dksX7_newOmen_1 0 rfl rfl)
theorem dX7_newOmen_26 : decode cX7_newOmen 26 = .ok (.iload_n 2, 1) := dk_28 (dk_at dksX7_newOmen_1 3 rfl rfl)
theorem dX7_newOmen_27 : decode cX7_newOmen 27 = .ok (.aload_n 0, 1) := dk_42 (dk_at dksX7_newOmen_1 4 rfl rfl)
theorem dX7_newOmen_28 : decode cX7_newOmen 28 = .ok (.ldc 111, 2) := dk_18 111 (dk_at dksX7_newOmen_1 5 rfl rfl)
theorem dX7_newOmen_30 : decode cX7_newOmen 30 = .ok (.iconst 1, 1) := dk_4 (dk_at dksX7_newOmen_1 7 rfl rfl)
theorem dX7_newOmen_31 : decode cX7_newOmen 31 = .ok (.iconst 5, 1) := dk_8 (dk_at dksX7_newOmen_1 8 rfl rfl)
theorem dX7_newOmen_32 : decode cX7_newOmen 32 = .ok (.invokevirtual 197, 3) := dk_182 0 197 (dk_at dksX7_newOmen_1 9 rfl rfl)
theorem dX7_newOmen_35 : decode cX7_newOmen 35 = .ok (.iastore, 1) := dk_79 (dk_at dksX7_newOmen_1 12 rfl rfl)
theorem dX7_newOmen_36 : decode cX7_newOmen 36 = .ok (.aload_n 1, 1) := dk_43 (dk_at dksX7_newOmen_1 13 rfl rfl)
theorem dX7_newOmen_37 : decode cX7_newOmen 37 = .ok (.dup, 1) := dk_89 (dk_at dksX7_newOmen_1 14 rfl rfl)
theorem dX7_newOmen_38 : decode cX7_newOmen 38 = .ok (.getfield 200, 3) := dk_180 0 200 (dk_at dksX7_newOmen_1 15 rfl rfl)
theorem dX7_newOmen_41 : decode cX7_newOmen 41 = .ok (.aload_n 0, 1) := dk_42 (dk_at dksX7_newOmen_1 18 rfl rfl)
theorem dX7_newOmen_42 : decode cX7_newOmen 42 = .ok (.ldc 113, 2) := dk_18 113 (dk_at dksX7_newOmen_1 19 rfl rfl)
theorem dX7_newOmen_44 : decode cX7_newOmen 44 = .ok (.invokevirtual 202, 3) := dk_182 0 202 (dk_at dksX7_newOmen_1 21 rfl rfl)
theorem dX7_newOmen_47 : decode cX7_newOmen 47 = .ok (.ifCond .eq 9, 3) := dk_153 0 9 (dk_at dksX7_newOmen_2 0 rfl rfl)
theorem dX7_newOmen_50 : decode cX7_newOmen 50 = .ok (.iconst 1, 1) := dk_4 (dk_at dksX7_newOmen_2 3 rfl rfl)
theorem dX7_newOmen_51 : decode cX7_newOmen 51 = .ok (.iload_n 2, 1) := dk_28 (dk_at dksX7_newOmen_2 4 rfl rfl)
theorem dX7_newOmen_52 : decode cX7_newOmen 52 = .ok (.ishl, 1) := dk_120 (dk_at dksX7_newOmen_2 5 rfl rfl)
theorem dX7_newOmen_53 : decode cX7_newOmen 53 = .ok (.goto 4, 3) := dk_167 0 4 (dk_at dksX7_newOmen_2 6 rfl rfl)
theorem dX7_newOmen_56 : decode cX7_newOmen 56 = .ok (.iconst 0, 1) := dk_3 (dk_at dksX7_newOmen_2 9 rfl rfl)
theorem dX7_newOmen_57 : decode cX7_newOmen 57 = .ok (.ior, 1) := dk_128 (dk_at dksX7_newOmen_2 10 rfl rfl)
theorem dX7_newOmen_58 : decode cX7_newOmen 58 = .ok (.putfield 200, 3) := dk_181 0 200 (dk_at dksX7_newOmen_2 11 rfl rfl)
theorem dX7_newOmen_61 : decode cX7_newOmen 61 = .ok (.aload_n 1, 1) := dk_43 (dk_at dksX7_newOmen_2 14 rfl rfl)
theorem dX7_newOmen_62 : decode cX7_newOmen 62 = .ok (.getfield 205, 3) := dk_180 0 205 (dk_at dksX7_newOmen_2 15 rfl rfl)
theorem dX7_newOmen_65 : decode cX7_newOmen 65 = .ok (.iload_n 2, 1) := dk_28 (dk_at dksX7_newOmen_2 18 rfl rfl)
theorem dX7_newOmen_66 : decode cX7_newOmen 66 = .ok (.lload_n 3, 1) := dk_33 (dk_at dksX7_newOmen_2 19 rfl rfl)
theorem dX7_newOmen_67 : decode cX7_newOmen 67 = .ok (.lastore, 1) := dk_80 (dk_at dksX7_newOmen_2 20 rfl rfl)
theorem dX7_newOmen_68 : decode cX7_newOmen 68 = .ok (.aload_n 1, 1) := dk_43 (dk_at dksX7_newOmen_2 21 rfl rfl)
theorem dX7_newOmen_69 : decode cX7_newOmen 69 = .ok (.dup, 1) := dk_89 (dk_at dksX7_newOmen_2 22 rfl rfl)
theorem dX7_newOmen_70 : decode cX7_newOmen 70 = .ok (.getfield 186, 3) := dk_180 0 186 (dk_at dksX7_newOmen_3 0 rfl rfl)
theorem dX7_newOmen_73 : decode cX7_newOmen 73 = .ok (.iconst 1, 1) := dk_4 (dk_at dksX7_newOmen_3 3 rfl rfl)
theorem dX7_newOmen_74 : decode cX7_newOmen 74 = .ok (.iadd, 1) := dk_96 (dk_at dksX7_newOmen_3 4 rfl rfl)
theorem dX7_newOmen_75 : decode cX7_newOmen 75 = .ok (.putfield 186, 3) := dk_181 0 186 (dk_at dksX7_newOmen_3 5 rfl rfl)
theorem dX7_newOmen_78 : decode cX7_newOmen 78 = .ok (.return_, 1) := dk_177 (dk_at dksX7_newOmen_3 8 rfl rfl)
abbrev cX7_fresh : ByteArray := prog_9_method_17_code
def yX7_fresh : MethodName := ⟨RX7, "fresh", "(LIslandCall$Boat;Z)J"⟩
def dkwX7_fresh_2 : List UInt8 := [42, 180, 0, 3, 180, 0, 55, 6, 42, 180, 0, 29, 182, 0, 59, 191, 42, 182, 0, 19, 33, 173]
abbrev dktX7_fresh_2 : List UInt8 := dkwX7_fresh_2 ++ []
def dkwX7_fresh_1 : List UInt8 := [182, 0, 19, 42, 182, 0, 141, 66, 43, 33, 182, 0, 145, 156, 0, 11, 43, 33, 182, 0, 151, 155, 0, 19]
abbrev dktX7_fresh_1 : List UInt8 := dkwX7_fresh_1 ++ dktX7_fresh_2
def dkwX7_fresh_0 : List UInt8 := [28, 154, 0, 20, 42, 180, 0, 3, 180, 0, 55, 16, 6, 42, 180, 0, 29, 182, 0, 59, 191, 42]
abbrev dktX7_fresh_0 : List UInt8 := dkwX7_fresh_0 ++ dktX7_fresh_1
theorem dksX7_fresh_0 : cX7_fresh.data.toList.drop 0 = dktX7_fresh_0 := by decide +kernel
theorem dksX7_fresh_1 : cX7_fresh.data.toList.drop 22 = dktX7_fresh_1 := dk_seg dksX7_fresh_0 22 rfl rfl
theorem dksX7_fresh_2 : cX7_fresh.data.toList.drop 46 = dktX7_fresh_2 := dk_seg dksX7_fresh_1 24 rfl rfl
theorem dX7_fresh_0 : decode cX7_fresh 0 = .ok (.iload_n 2, 1) := dk_28 (dk_at dksX7_fresh_0 0 rfl rfl)
theorem dX7_fresh_1 : decode cX7_fresh 1 = .ok (.ifCond .ne 20, 3) := dk_154 0 20 (dk_at dksX7_fresh_0 1 rfl rfl)
theorem dX7_fresh_4 : decode cX7_fresh 4 = .ok (.aload_n 0, 1) := dk_42 (dk_at dksX7_fresh_0 4 rfl rfl)
theorem dX7_fresh_5 : decode cX7_fresh 5 = .ok (.getfield 3, 3) := dk_180 0 3 (dk_at dksX7_fresh_0 5 rfl rfl)
theorem dX7_fresh_8 : decode cX7_fresh 8 = .ok (.getfield 55, 3) := dk_180 0 55 (dk_at dksX7_fresh_0 8 rfl rfl)
theorem dX7_fresh_11 : decode cX7_fresh 11 = .ok (.bipush 6, 2) := dk_16 6 (dk_at dksX7_fresh_0 11 rfl rfl)
theorem dX7_fresh_13 : decode cX7_fresh 13 = .ok (.aload_n 0, 1) := dk_42 (dk_at dksX7_fresh_0 13 rfl rfl)
theorem dX7_fresh_14 : decode cX7_fresh 14 = .ok (.getfield 29, 3) := dk_180 0 29 (dk_at dksX7_fresh_0 14 rfl rfl)
theorem dX7_fresh_17 : decode cX7_fresh 17 = .ok (.invokevirtual 59, 3) := dk_182 0 59 (dk_at dksX7_fresh_0 17 rfl rfl)
theorem dX7_fresh_20 : decode cX7_fresh 20 = .ok (.athrow, 1) := dk_191 (dk_at dksX7_fresh_0 20 rfl rfl)
theorem dX7_fresh_21 : decode cX7_fresh 21 = .ok (.aload_n 0, 1) := dk_42 (dk_at dksX7_fresh_0 21 rfl rfl)
theorem dX7_fresh_22 : decode cX7_fresh 22 = .ok (.invokevirtual 19, 3) := dk_182 0 19 (dk_at dksX7_fresh_1 0 rfl rfl)
theorem dX7_fresh_25 : decode cX7_fresh 25 = .ok (.aload_n 0, 1) := dk_42 (dk_at dksX7_fresh_1 3 rfl rfl)
theorem dX7_fresh_26 : decode cX7_fresh 26 = .ok (.invokevirtual 141, 3) := dk_182 0 141 (dk_at dksX7_fresh_1 4 rfl rfl)
theorem dX7_fresh_29 : decode cX7_fresh 29 = .ok (.lstore_n 3, 1) := dk_66 (dk_at dksX7_fresh_1 7 rfl rfl)
theorem dX7_fresh_30 : decode cX7_fresh 30 = .ok (.aload_n 1, 1) := dk_43 (dk_at dksX7_fresh_1 8 rfl rfl)
theorem dX7_fresh_31 : decode cX7_fresh 31 = .ok (.lload_n 3, 1) := dk_33 (dk_at dksX7_fresh_1 9 rfl rfl)
theorem dX7_fresh_32 : decode cX7_fresh 32 = .ok (.invokevirtual 145, 3) := dk_182 0 145 (dk_at dksX7_fresh_1 10 rfl rfl)
theorem dX7_fresh_35 : decode cX7_fresh 35 = .ok (.ifCond .ge 11, 3) := dk_156 0 11 (dk_at dksX7_fresh_1 13 rfl rfl)
theorem dX7_fresh_38 : decode cX7_fresh 38 = .ok (.aload_n 1, 1) := dk_43 (dk_at dksX7_fresh_1 16 rfl rfl)
theorem dX7_fresh_39 : decode cX7_fresh 39 = .ok (.lload_n 3, 1) := dk_33 (dk_at dksX7_fresh_1 17 rfl rfl)
theorem dX7_fresh_40 : decode cX7_fresh 40 = .ok (.invokevirtual 151, 3) := dk_182 0 151 (dk_at dksX7_fresh_1 18 rfl rfl)
theorem dX7_fresh_43 : decode cX7_fresh 43 = .ok (.ifCond .lt 19, 3) := dk_155 0 19 (dk_at dksX7_fresh_1 21 rfl rfl)
theorem dX7_fresh_46 : decode cX7_fresh 46 = .ok (.aload_n 0, 1) := dk_42 (dk_at dksX7_fresh_2 0 rfl rfl)
theorem dX7_fresh_47 : decode cX7_fresh 47 = .ok (.getfield 3, 3) := dk_180 0 3 (dk_at dksX7_fresh_2 1 rfl rfl)
theorem dX7_fresh_50 : decode cX7_fresh 50 = .ok (.getfield 55, 3) := dk_180 0 55 (dk_at dksX7_fresh_2 4 rfl rfl)
theorem dX7_fresh_53 : decode cX7_fresh 53 = .ok (.iconst 3, 1) := dk_6 (dk_at dksX7_fresh_2 7 rfl rfl)
theorem dX7_fresh_54 : decode cX7_fresh 54 = .ok (.aload_n 0, 1) := dk_42 (dk_at dksX7_fresh_2 8 rfl rfl)
theorem dX7_fresh_55 : decode cX7_fresh 55 = .ok (.getfield 29, 3) := dk_180 0 29 (dk_at dksX7_fresh_2 9 rfl rfl)
theorem dX7_fresh_58 : decode cX7_fresh 58 = .ok (.invokevirtual 59, 3) := dk_182 0 59 (dk_at dksX7_fresh_2 12 rfl rfl)
theorem dX7_fresh_61 : decode cX7_fresh 61 = .ok (.athrow, 1) := dk_191 (dk_at dksX7_fresh_2 15 rfl rfl)
theorem dX7_fresh_62 : decode cX7_fresh 62 = .ok (.aload_n 0, 1) := dk_42 (dk_at dksX7_fresh_2 16 rfl rfl)
theorem dX7_fresh_63 : decode cX7_fresh 63 = .ok (.invokevirtual 19, 3) := dk_182 0 19 (dk_at dksX7_fresh_2 17 rfl rfl)
theorem dX7_fresh_66 : decode cX7_fresh 66 = .ok (.lload_n 3, 1) := dk_33 (dk_at dksX7_fresh_2 20 rfl rfl)
theorem dX7_fresh_67 : decode cX7_fresh 67 = .ok (.lreturn, 1) := dk_173 (dk_at dksX7_fresh_2 21 rfl rfl)
abbrev cX7_name : ByteArray := prog_9_method_16_code
def yX7_name : MethodName := ⟨RX7, "name", "()J"⟩
def dkwX7_name_3 : List UInt8 := [132, 3, 1, 167, 255, 224, 31, 173]
abbrev dktX7_name_3 : List UInt8 := dkwX7_name_3 ++ []
def dkwX7_name_2 : List UInt8 := [162, 0, 30, 31, 20, 0, 137, 105, 42, 180, 0, 3, 180, 0, 22, 29, 51, 133, 97, 20, 0, 139, 101, 64]
abbrev dktX7_name_2 : List UInt8 := dkwX7_name_2 ++ dktX7_name_3
def dkwX7_name_1 : List UInt8 := [182, 0, 133, 153, 0, 8, 42, 182, 0, 68, 191, 9, 64, 42, 180, 0, 29, 62, 29, 42, 180, 0, 26]
abbrev dktX7_name_1 : List UInt8 := dkwX7_name_1 ++ dktX7_name_2
def dkwX7_name_0 : List UInt8 := [42, 180, 0, 32, 4, 160, 0, 24, 42, 180, 0, 26, 42, 180, 0, 29, 100, 16, 8, 163, 0, 10, 42]
abbrev dktX7_name_0 : List UInt8 := dkwX7_name_0 ++ dktX7_name_1
theorem dksX7_name_0 : cX7_name.data.toList.drop 0 = dktX7_name_0 := by decide +kernel
theorem dksX7_name_1 : cX7_name.data.toList.drop 23 = dktX7_name_1 := dk_seg dksX7_name_0 23 rfl rfl
theorem dksX7_name_2 : cX7_name.data.toList.drop 46 = dktX7_name_2 := dk_seg dksX7_name_1 23 rfl rfl
theorem dksX7_name_3 : cX7_name.data.toList.drop 70 = dktX7_name_3 := dk_seg dksX7_name_2 24 rfl rfl
theorem dX7_name_0 : decode cX7_name 0 = .ok (.aload_n 0, 1) := dk_42 (dk_at dksX7_name_0 0 rfl rfl)
theorem dX7_name_1 : decode cX7_name 1 = .ok (.getfield 32, 3) := dk_180 0 32 (dk_at dksX7_name_0 1 rfl rfl)
theorem dX7_name_4 : decode cX7_name 4 = .ok (.iconst 1, 1) := dk_4 (dk_at dksX7_name_0 4 rfl rfl)
theorem dX7_name_5 : decode cX7_name 5 = .ok (.if_icmp .ne 24, 3) := dk_160 0 24 (dk_at dksX7_name_0 5 rfl rfl)
theorem dX7_name_8 : decode cX7_name 8 = .ok (.aload_n 0, 1) := dk_42 (dk_at dksX7_name_0 8 rfl rfl)
theorem dX7_name_9 : decode cX7_name 9 = .ok (.getfield 26, 3) := dk_180 0 26 (dk_at dksX7_name_0 9 rfl rfl)
theorem dX7_name_12 : decode cX7_name 12 = .ok (.aload_n 0, 1) := dk_42 (dk_at dksX7_name_0 12 rfl rfl)
theorem dX7_name_13 : decode cX7_name 13 = .ok (.getfield 29, 3) := dk_180 0 29 (dk_at dksX7_name_0 13 rfl rfl)
theorem dX7_name_16 : decode cX7_name 16 = .ok (.isub, 1) := dk_100 (dk_at dksX7_name_0 16 rfl rfl)
theorem dX7_name_17 : decode cX7_name 17 = .ok (.bipush 8, 2) := dk_16 8 (dk_at dksX7_name_0 17 rfl rfl)
theorem dX7_name_19 : decode cX7_name 19 = .ok (.if_icmp .gt 10, 3) := dk_163 0 10 (dk_at dksX7_name_0 19 rfl rfl)
theorem dX7_name_22 : decode cX7_name 22 = .ok (.aload_n 0, 1) := dk_42 (dk_at dksX7_name_0 22 rfl rfl)
theorem dX7_name_23 : decode cX7_name 23 = .ok (.invokevirtual 133, 3) := dk_182 0 133 (dk_at dksX7_name_1 0 rfl rfl)
theorem dX7_name_26 : decode cX7_name 26 = .ok (.ifCond .eq 8, 3) := dk_153 0 8 (dk_at dksX7_name_1 3 rfl rfl)
theorem dX7_name_29 : decode cX7_name 29 = .ok (.aload_n 0, 1) := dk_42 (dk_at dksX7_name_1 6 rfl rfl)
theorem dX7_name_30 : decode cX7_name 30 = .ok (.invokevirtual 68, 3) := dk_182 0 68 (dk_at dksX7_name_1 7 rfl rfl)
theorem dX7_name_33 : decode cX7_name 33 = .ok (.athrow, 1) := dk_191 (dk_at dksX7_name_1 10 rfl rfl)
theorem dX7_name_34 : decode cX7_name 34 = .ok (.lconst 0, 1) := dk_9 (dk_at dksX7_name_1 11 rfl rfl)
theorem dX7_name_35 : decode cX7_name 35 = .ok (.lstore_n 1, 1) := dk_64 (dk_at dksX7_name_1 12 rfl rfl)
theorem dX7_name_36 : decode cX7_name 36 = .ok (.aload_n 0, 1) := dk_42 (dk_at dksX7_name_1 13 rfl rfl)
theorem dX7_name_37 : decode cX7_name 37 = .ok (.getfield 29, 3) := dk_180 0 29 (dk_at dksX7_name_1 14 rfl rfl)
theorem dX7_name_40 : decode cX7_name 40 = .ok (.istore_n 3, 1) := dk_62 (dk_at dksX7_name_1 17 rfl rfl)
theorem dX7_name_41 : decode cX7_name 41 = .ok (.iload_n 3, 1) := dk_29 (dk_at dksX7_name_1 18 rfl rfl)
theorem dX7_name_42 : decode cX7_name 42 = .ok (.aload_n 0, 1) := dk_42 (dk_at dksX7_name_1 19 rfl rfl)
theorem dX7_name_43 : decode cX7_name 43 = .ok (.getfield 26, 3) := dk_180 0 26 (dk_at dksX7_name_1 20 rfl rfl)
theorem dX7_name_46 : decode cX7_name 46 = .ok (.if_icmp .ge 30, 3) := dk_162 0 30 (dk_at dksX7_name_2 0 rfl rfl)
theorem dX7_name_49 : decode cX7_name 49 = .ok (.lload_n 1, 1) := dk_31 (dk_at dksX7_name_2 3 rfl rfl)
theorem dX7_name_50 : decode cX7_name 50 = .ok (.ldc2_w 137, 3) := dk_20 0 137 (dk_at dksX7_name_2 4 rfl rfl)
theorem dX7_name_53 : decode cX7_name 53 = .ok (.lmul, 1) := dk_105 (dk_at dksX7_name_2 7 rfl rfl)
theorem dX7_name_54 : decode cX7_name 54 = .ok (.aload_n 0, 1) := dk_42 (dk_at dksX7_name_2 8 rfl rfl)
theorem dX7_name_55 : decode cX7_name 55 = .ok (.getfield 3, 3) := dk_180 0 3 (dk_at dksX7_name_2 9 rfl rfl)
theorem dX7_name_58 : decode cX7_name 58 = .ok (.getfield 22, 3) := dk_180 0 22 (dk_at dksX7_name_2 12 rfl rfl)
theorem dX7_name_61 : decode cX7_name 61 = .ok (.iload_n 3, 1) := dk_29 (dk_at dksX7_name_2 15 rfl rfl)
theorem dX7_name_62 : decode cX7_name 62 = .ok (.baload, 1) := dk_51 (dk_at dksX7_name_2 16 rfl rfl)
theorem dX7_name_63 : decode cX7_name 63 = .ok (.i2l, 1) := dk_133 (dk_at dksX7_name_2 17 rfl rfl)
theorem dX7_name_64 : decode cX7_name 64 = .ok (.ladd, 1) := dk_97 (dk_at dksX7_name_2 18 rfl rfl)
theorem dX7_name_65 : decode cX7_name 65 = .ok (.ldc2_w 139, 3) := dk_20 0 139 (dk_at dksX7_name_2 19 rfl rfl)
theorem dX7_name_68 : decode cX7_name 68 = .ok (.lsub, 1) := dk_101 (dk_at dksX7_name_2 22 rfl rfl)
theorem dX7_name_69 : decode cX7_name 69 = .ok (.lstore_n 1, 1) := dk_64 (dk_at dksX7_name_2 23 rfl rfl)
theorem dX7_name_70 : decode cX7_name 70 = .ok (.iinc 3 1, 3) := dk_132 3 1 (dk_at dksX7_name_3 0 rfl rfl)
theorem dX7_name_73 : decode cX7_name 73 = .ok (.goto (-32), 3) := dk_167 255 224 (dk_at dksX7_name_3 3 rfl rfl)
theorem dX7_name_76 : decode cX7_name 76 = .ok (.lload_n 1, 1) := dk_31 (dk_at dksX7_name_3 6 rfl rfl)
theorem dX7_name_77 : decode cX7_name 77 = .ok (.lreturn, 1) := dk_173 (dk_at dksX7_name_3 7 rfl rfl)
abbrev cX7_isKept : ByteArray := prog_9_method_15_code
def yX7_isKept : MethodName := ⟨RX7, "isKept", "()Z"⟩
def dkwX7_isKept_6 : List UInt8 := [167, 0, 4, 3, 172]
abbrev dktX7_isKept_6 : List UInt8 := dkwX7_isKept_6 ++ []
def dkwX7_isKept_5 : List UInt8 := [27, 154, 0, 21, 28, 154, 0, 17, 42, 182, 0, 127, 156, 0, 10, 42, 182, 0, 130, 155, 0, 7, 4]
abbrev dktX7_isKept_5 : List UInt8 := dkwX7_isKept_5 ++ dktX7_isKept_6
def dkwX7_isKept_4 : List UInt8 := [42, 18, 123, 182, 0, 72, 154, 0, 12, 42, 18, 125, 182, 0, 72, 153, 0, 7, 4, 167, 0, 4, 3, 61]
abbrev dktX7_isKept_4 : List UInt8 := dkwX7_isKept_4 ++ dktX7_isKept_5
def dkwX7_isKept_3 : List UInt8 := [182, 0, 72, 154, 0, 39, 42, 18, 119, 182, 0, 72, 154, 0, 30, 42, 18, 121, 182, 0, 72, 154, 0, 21]
abbrev dktX7_isKept_3 : List UInt8 := dkwX7_isKept_3 ++ dktX7_isKept_4
def dkwX7_isKept_2 : List UInt8 := [182, 0, 72, 154, 0, 12, 42, 18, 115, 182, 0, 72, 153, 0, 7, 4, 167, 0, 4, 3, 60, 42, 18, 117]
abbrev dktX7_isKept_2 : List UInt8 := dkwX7_isKept_2 ++ dktX7_isKept_3
def dkwX7_isKept_1 : List UInt8 := [154, 0, 39, 42, 18, 109, 182, 0, 72, 154, 0, 30, 42, 18, 111, 182, 0, 72, 154, 0, 21, 42, 18, 113]
abbrev dktX7_isKept_1 : List UInt8 := dkwX7_isKept_1 ++ dktX7_isKept_2
def dkwX7_isKept_0 : List UInt8 := [42, 18, 103, 182, 0, 72, 154, 0, 57, 42, 18, 105, 182, 0, 72, 154, 0, 48, 42, 18, 107, 182, 0, 72]
abbrev dktX7_isKept_0 : List UInt8 := dkwX7_isKept_0 ++ dktX7_isKept_1
theorem dksX7_isKept_0 : cX7_isKept.data.toList.drop 0 = dktX7_isKept_0 := by decide +kernel
theorem dksX7_isKept_1 : cX7_isKept.data.toList.drop 24 = dktX7_isKept_1 := dk_seg dksX7_isKept_0 24 rfl rfl
theorem dksX7_isKept_2 : cX7_isKept.data.toList.drop 48 = dktX7_isKept_2 := dk_seg dksX7_isKept_1 24 rfl rfl
theorem dksX7_isKept_3 : cX7_isKept.data.toList.drop 72 = dktX7_isKept_3 := dk_seg dksX7_isKept_2 24 rfl rfl
theorem dksX7_isKept_4 : cX7_isKept.data.toList.drop 96 = dktX7_isKept_4 := dk_seg dksX7_isKept_3 24 rfl rfl
theorem dksX7_isKept_5 : cX7_isKept.data.toList.drop 120 = dktX7_isKept_5 := dk_seg dksX7_isKept_4 24 rfl rfl
theorem dksX7_isKept_6 : cX7_isKept.data.toList.drop 143 = dktX7_isKept_6 := dk_seg dksX7_isKept_5 23 rfl rfl
theorem dX7_isKept_0 : decode cX7_isKept 0 = .ok (.aload_n 0, 1) := dk_42 (dk_at dksX7_isKept_0 0 rfl rfl)
theorem dX7_isKept_1 : decode cX7_isKept 1 = .ok (.ldc 103, 2) := dk_18 103 (dk_at dksX7_isKept_0 1 rfl rfl)
theorem dX7_isKept_3 : decode cX7_isKept 3 = .ok (.invokevirtual 72, 3) := dk_182 0 72 (dk_at dksX7_isKept_0 3 rfl rfl)
theorem dX7_isKept_6 : decode cX7_isKept 6 = .ok (.ifCond .ne 57, 3) := dk_154 0 57 (dk_at dksX7_isKept_0 6 rfl rfl)
theorem dX7_isKept_9 : decode cX7_isKept 9 = .ok (.aload_n 0, 1) := dk_42 (dk_at dksX7_isKept_0 9 rfl rfl)
theorem dX7_isKept_10 : decode cX7_isKept 10 = .ok (.ldc 105, 2) := dk_18 105 (dk_at dksX7_isKept_0 10 rfl rfl)
theorem dX7_isKept_12 : decode cX7_isKept 12 = .ok (.invokevirtual 72, 3) := dk_182 0 72 (dk_at dksX7_isKept_0 12 rfl rfl)
theorem dX7_isKept_15 : decode cX7_isKept 15 = .ok (.ifCond .ne 48, 3) := dk_154 0 48 (dk_at dksX7_isKept_0 15 rfl rfl)
theorem dX7_isKept_18 : decode cX7_isKept 18 = .ok (.aload_n 0, 1) := dk_42 (dk_at dksX7_isKept_0 18 rfl rfl)
theorem dX7_isKept_19 : decode cX7_isKept 19 = .ok (.ldc 107, 2) := dk_18 107 (dk_at dksX7_isKept_0 19 rfl rfl)
theorem dX7_isKept_21 : decode cX7_isKept 21 = .ok (.invokevirtual 72, 3) := dk_182 0 72 (dk_at dksX7_isKept_0 21 rfl rfl)
theorem dX7_isKept_24 : decode cX7_isKept 24 = .ok (.ifCond .ne 39, 3) := dk_154 0 39 (dk_at dksX7_isKept_1 0 rfl rfl)
theorem dX7_isKept_27 : decode cX7_isKept 27 = .ok (.aload_n 0, 1) := dk_42 (dk_at dksX7_isKept_1 3 rfl rfl)
theorem dX7_isKept_28 : decode cX7_isKept 28 = .ok (.ldc 109, 2) := dk_18 109 (dk_at dksX7_isKept_1 4 rfl rfl)
theorem dX7_isKept_30 : decode cX7_isKept 30 = .ok (.invokevirtual 72, 3) := dk_182 0 72 (dk_at dksX7_isKept_1 6 rfl rfl)
theorem dX7_isKept_33 : decode cX7_isKept 33 = .ok (.ifCond .ne 30, 3) := dk_154 0 30 (dk_at dksX7_isKept_1 9 rfl rfl)
theorem dX7_isKept_36 : decode cX7_isKept 36 = .ok (.aload_n 0, 1) := dk_42 (dk_at dksX7_isKept_1 12 rfl rfl)
theorem dX7_isKept_37 : decode cX7_isKept 37 = .ok (.ldc 111, 2) := dk_18 111 (dk_at dksX7_isKept_1 13 rfl rfl)
theorem dX7_isKept_39 : decode cX7_isKept 39 = .ok (.invokevirtual 72, 3) := dk_182 0 72 (dk_at dksX7_isKept_1 15 rfl rfl)
theorem dX7_isKept_42 : decode cX7_isKept 42 = .ok (.ifCond .ne 21, 3) := dk_154 0 21 (dk_at dksX7_isKept_1 18 rfl rfl)
theorem dX7_isKept_45 : decode cX7_isKept 45 = .ok (.aload_n 0, 1) := dk_42 (dk_at dksX7_isKept_1 21 rfl rfl)
theorem dX7_isKept_46 : decode cX7_isKept 46 = .ok (.ldc 113, 2) := dk_18 113 (dk_at dksX7_isKept_1 22 rfl rfl)
theorem dX7_isKept_48 : decode cX7_isKept 48 = .ok (.invokevirtual 72, 3) := dk_182 0 72 (dk_at dksX7_isKept_2 0 rfl rfl)
theorem dX7_isKept_51 : decode cX7_isKept 51 = .ok (.ifCond .ne 12, 3) := dk_154 0 12 (dk_at dksX7_isKept_2 3 rfl rfl)
theorem dX7_isKept_54 : decode cX7_isKept 54 = .ok (.aload_n 0, 1) := dk_42 (dk_at dksX7_isKept_2 6 rfl rfl)
theorem dX7_isKept_55 : decode cX7_isKept 55 = .ok (.ldc 115, 2) := dk_18 115 (dk_at dksX7_isKept_2 7 rfl rfl)
theorem dX7_isKept_57 : decode cX7_isKept 57 = .ok (.invokevirtual 72, 3) := dk_182 0 72 (dk_at dksX7_isKept_2 9 rfl rfl)
theorem dX7_isKept_60 : decode cX7_isKept 60 = .ok (.ifCond .eq 7, 3) := dk_153 0 7 (dk_at dksX7_isKept_2 12 rfl rfl)
theorem dX7_isKept_63 : decode cX7_isKept 63 = .ok (.iconst 1, 1) := dk_4 (dk_at dksX7_isKept_2 15 rfl rfl)
theorem dX7_isKept_64 : decode cX7_isKept 64 = .ok (.goto 4, 3) := dk_167 0 4 (dk_at dksX7_isKept_2 16 rfl rfl)
theorem dX7_isKept_67 : decode cX7_isKept 67 = .ok (.iconst 0, 1) := dk_3 (dk_at dksX7_isKept_2 19 rfl rfl)
theorem dX7_isKept_68 : decode cX7_isKept 68 = .ok (.istore_n 1, 1) := dk_60 (dk_at dksX7_isKept_2 20 rfl rfl)
theorem dX7_isKept_69 : decode cX7_isKept 69 = .ok (.aload_n 0, 1) := dk_42 (dk_at dksX7_isKept_2 21 rfl rfl)
theorem dX7_isKept_70 : decode cX7_isKept 70 = .ok (.ldc 117, 2) := dk_18 117 (dk_at dksX7_isKept_2 22 rfl rfl)
theorem dX7_isKept_72 : decode cX7_isKept 72 = .ok (.invokevirtual 72, 3) := dk_182 0 72 (dk_at dksX7_isKept_3 0 rfl rfl)
theorem dX7_isKept_75 : decode cX7_isKept 75 = .ok (.ifCond .ne 39, 3) := dk_154 0 39 (dk_at dksX7_isKept_3 3 rfl rfl)
theorem dX7_isKept_78 : decode cX7_isKept 78 = .ok (.aload_n 0, 1) := dk_42 (dk_at dksX7_isKept_3 6 rfl rfl)
theorem dX7_isKept_79 : decode cX7_isKept 79 = .ok (.ldc 119, 2) := dk_18 119 (dk_at dksX7_isKept_3 7 rfl rfl)
theorem dX7_isKept_81 : decode cX7_isKept 81 = .ok (.invokevirtual 72, 3) := dk_182 0 72 (dk_at dksX7_isKept_3 9 rfl rfl)
theorem dX7_isKept_84 : decode cX7_isKept 84 = .ok (.ifCond .ne 30, 3) := dk_154 0 30 (dk_at dksX7_isKept_3 12 rfl rfl)
theorem dX7_isKept_87 : decode cX7_isKept 87 = .ok (.aload_n 0, 1) := dk_42 (dk_at dksX7_isKept_3 15 rfl rfl)
theorem dX7_isKept_88 : decode cX7_isKept 88 = .ok (.ldc 121, 2) := dk_18 121 (dk_at dksX7_isKept_3 16 rfl rfl)
theorem dX7_isKept_90 : decode cX7_isKept 90 = .ok (.invokevirtual 72, 3) := dk_182 0 72 (dk_at dksX7_isKept_3 18 rfl rfl)
theorem dX7_isKept_93 : decode cX7_isKept 93 = .ok (.ifCond .ne 21, 3) := dk_154 0 21 (dk_at dksX7_isKept_3 21 rfl rfl)
theorem dX7_isKept_96 : decode cX7_isKept 96 = .ok (.aload_n 0, 1) := dk_42 (dk_at dksX7_isKept_4 0 rfl rfl)
theorem dX7_isKept_97 : decode cX7_isKept 97 = .ok (.ldc 123, 2) := dk_18 123 (dk_at dksX7_isKept_4 1 rfl rfl)
theorem dX7_isKept_99 : decode cX7_isKept 99 = .ok (.invokevirtual 72, 3) := dk_182 0 72 (dk_at dksX7_isKept_4 3 rfl rfl)
theorem dX7_isKept_102 : decode cX7_isKept 102 = .ok (.ifCond .ne 12, 3) := dk_154 0 12 (dk_at dksX7_isKept_4 6 rfl rfl)
theorem dX7_isKept_105 : decode cX7_isKept 105 = .ok (.aload_n 0, 1) := dk_42 (dk_at dksX7_isKept_4 9 rfl rfl)
theorem dX7_isKept_106 : decode cX7_isKept 106 = .ok (.ldc 125, 2) := dk_18 125 (dk_at dksX7_isKept_4 10 rfl rfl)
theorem dX7_isKept_108 : decode cX7_isKept 108 = .ok (.invokevirtual 72, 3) := dk_182 0 72 (dk_at dksX7_isKept_4 12 rfl rfl)
theorem dX7_isKept_111 : decode cX7_isKept 111 = .ok (.ifCond .eq 7, 3) := dk_153 0 7 (dk_at dksX7_isKept_4 15 rfl rfl)
theorem dX7_isKept_114 : decode cX7_isKept 114 = .ok (.iconst 1, 1) := dk_4 (dk_at dksX7_isKept_4 18 rfl rfl)
theorem dX7_isKept_115 : decode cX7_isKept 115 = .ok (.goto 4, 3) := dk_167 0 4 (dk_at dksX7_isKept_4 19 rfl rfl)
theorem dX7_isKept_118 : decode cX7_isKept 118 = .ok (.iconst 0, 1) := dk_3 (dk_at dksX7_isKept_4 22 rfl rfl)
theorem dX7_isKept_119 : decode cX7_isKept 119 = .ok (.istore_n 2, 1) := dk_61 (dk_at dksX7_isKept_4 23 rfl rfl)
theorem dX7_isKept_120 : decode cX7_isKept 120 = .ok (.iload_n 1, 1) := dk_27 (dk_at dksX7_isKept_5 0 rfl rfl)
theorem dX7_isKept_121 : decode cX7_isKept 121 = .ok (.ifCond .ne 21, 3) := dk_154 0 21 (dk_at dksX7_isKept_5 1 rfl rfl)
theorem dX7_isKept_124 : decode cX7_isKept 124 = .ok (.iload_n 2, 1) := dk_28 (dk_at dksX7_isKept_5 4 rfl rfl)
theorem dX7_isKept_125 : decode cX7_isKept 125 = .ok (.ifCond .ne 17, 3) := dk_154 0 17 (dk_at dksX7_isKept_5 5 rfl rfl)
theorem dX7_isKept_128 : decode cX7_isKept 128 = .ok (.aload_n 0, 1) := dk_42 (dk_at dksX7_isKept_5 8 rfl rfl)
theorem dX7_isKept_129 : decode cX7_isKept 129 = .ok (.invokevirtual 127, 3) := dk_182 0 127 (dk_at dksX7_isKept_5 9 rfl rfl)
theorem dX7_isKept_132 : decode cX7_isKept 132 = .ok (.ifCond .ge 10, 3) := dk_156 0 10 (dk_at dksX7_isKept_5 12 rfl rfl)
theorem dX7_isKept_135 : decode cX7_isKept 135 = .ok (.aload_n 0, 1) := dk_42 (dk_at dksX7_isKept_5 15 rfl rfl)
theorem dX7_isKept_136 : decode cX7_isKept 136 = .ok (.invokevirtual 130, 3) := dk_182 0 130 (dk_at dksX7_isKept_5 16 rfl rfl)
theorem dX7_isKept_139 : decode cX7_isKept 139 = .ok (.ifCond .lt 7, 3) := dk_155 0 7 (dk_at dksX7_isKept_5 19 rfl rfl)
theorem dX7_isKept_142 : decode cX7_isKept 142 = .ok (.iconst 1, 1) := dk_4 (dk_at dksX7_isKept_5 22 rfl rfl)
theorem dX7_isKept_143 : decode cX7_isKept 143 = .ok (.goto 4, 3) := dk_167 0 4 (dk_at dksX7_isKept_6 0 rfl rfl)
theorem dX7_isKept_146 : decode cX7_isKept 146 = .ok (.iconst 0, 1) := dk_3 (dk_at dksX7_isKept_6 3 rfl rfl)
theorem dX7_isKept_147 : decode cX7_isKept 147 = .ok (.ireturn, 1) := dk_172 (dk_at dksX7_isKept_6 4 rfl rfl)
abbrev cX7_acts : ByteArray := prog_9_method_13_code
def yX7_acts : MethodName := ⟨RX7, "acts", "()I"⟩
def dkwX7_acts_3 : List UInt8 := [182, 0, 72, 153, 0, 8, 16, 6, 167, 0, 4, 2, 172]
abbrev dktX7_acts_3 : List UInt8 := dkwX7_acts_3 ++ []
def dkwX7_acts_2 : List UInt8 := [182, 0, 72, 153, 0, 5, 7, 172, 42, 18, 93, 182, 0, 72, 153, 0, 5, 8, 172, 42, 18, 95]
abbrev dktX7_acts_2 : List UInt8 := dkwX7_acts_2 ++ dktX7_acts_3
def dkwX7_acts_1 : List UInt8 := [18, 87, 182, 0, 72, 153, 0, 5, 5, 172, 42, 18, 89, 182, 0, 72, 153, 0, 5, 6, 172, 42, 18, 91]
abbrev dktX7_acts_1 : List UInt8 := dkwX7_acts_1 ++ dktX7_acts_2
def dkwX7_acts_0 : List UInt8 := [42, 18, 83, 182, 0, 72, 153, 0, 5, 3, 172, 42, 18, 85, 182, 0, 72, 153, 0, 5, 4, 172, 42]
abbrev dktX7_acts_0 : List UInt8 := dkwX7_acts_0 ++ dktX7_acts_1
theorem dksX7_acts_0 : cX7_acts.data.toList.drop 0 = dktX7_acts_0 := by decide +kernel
theorem dksX7_acts_1 : cX7_acts.data.toList.drop 23 = dktX7_acts_1 := dk_seg dksX7_acts_0 23 rfl rfl
theorem dksX7_acts_2 : cX7_acts.data.toList.drop 47 = dktX7_acts_2 := dk_seg dksX7_acts_1 24 rfl rfl
theorem dksX7_acts_3 : cX7_acts.data.toList.drop 69 = dktX7_acts_3 := dk_seg dksX7_acts_2 22 rfl rfl
theorem dX7_acts_0 : decode cX7_acts 0 = .ok (.aload_n 0, 1) := dk_42 (dk_at dksX7_acts_0 0 rfl rfl)
theorem dX7_acts_1 : decode cX7_acts 1 = .ok (.ldc 83, 2) := dk_18 83 (dk_at dksX7_acts_0 1 rfl rfl)
theorem dX7_acts_3 : decode cX7_acts 3 = .ok (.invokevirtual 72, 3) := dk_182 0 72 (dk_at dksX7_acts_0 3 rfl rfl)
theorem dX7_acts_6 : decode cX7_acts 6 = .ok (.ifCond .eq 5, 3) := dk_153 0 5 (dk_at dksX7_acts_0 6 rfl rfl)
theorem dX7_acts_9 : decode cX7_acts 9 = .ok (.iconst 0, 1) := dk_3 (dk_at dksX7_acts_0 9 rfl rfl)
theorem dX7_acts_10 : decode cX7_acts 10 = .ok (.ireturn, 1) := dk_172 (dk_at dksX7_acts_0 10 rfl rfl)
theorem dX7_acts_11 : decode cX7_acts 11 = .ok (.aload_n 0, 1) := dk_42 (dk_at dksX7_acts_0 11 rfl rfl)
theorem dX7_acts_12 : decode cX7_acts 12 = .ok (.ldc 85, 2) := dk_18 85 (dk_at dksX7_acts_0 12 rfl rfl)
theorem dX7_acts_14 : decode cX7_acts 14 = .ok (.invokevirtual 72, 3) := dk_182 0 72 (dk_at dksX7_acts_0 14 rfl rfl)
theorem dX7_acts_17 : decode cX7_acts 17 = .ok (.ifCond .eq 5, 3) := dk_153 0 5 (dk_at dksX7_acts_0 17 rfl rfl)
theorem dX7_acts_20 : decode cX7_acts 20 = .ok (.iconst 1, 1) := dk_4 (dk_at dksX7_acts_0 20 rfl rfl)
theorem dX7_acts_21 : decode cX7_acts 21 = .ok (.ireturn, 1) := dk_172 (dk_at dksX7_acts_0 21 rfl rfl)
theorem dX7_acts_22 : decode cX7_acts 22 = .ok (.aload_n 0, 1) := dk_42 (dk_at dksX7_acts_0 22 rfl rfl)
theorem dX7_acts_23 : decode cX7_acts 23 = .ok (.ldc 87, 2) := dk_18 87 (dk_at dksX7_acts_1 0 rfl rfl)
theorem dX7_acts_25 : decode cX7_acts 25 = .ok (.invokevirtual 72, 3) := dk_182 0 72 (dk_at dksX7_acts_1 2 rfl rfl)
theorem dX7_acts_28 : decode cX7_acts 28 = .ok (.ifCond .eq 5, 3) := dk_153 0 5 (dk_at dksX7_acts_1 5 rfl rfl)
theorem dX7_acts_31 : decode cX7_acts 31 = .ok (.iconst 2, 1) := dk_5 (dk_at dksX7_acts_1 8 rfl rfl)
theorem dX7_acts_32 : decode cX7_acts 32 = .ok (.ireturn, 1) := dk_172 (dk_at dksX7_acts_1 9 rfl rfl)
theorem dX7_acts_33 : decode cX7_acts 33 = .ok (.aload_n 0, 1) := dk_42 (dk_at dksX7_acts_1 10 rfl rfl)
theorem dX7_acts_34 : decode cX7_acts 34 = .ok (.ldc 89, 2) := dk_18 89 (dk_at dksX7_acts_1 11 rfl rfl)
theorem dX7_acts_36 : decode cX7_acts 36 = .ok (.invokevirtual 72, 3) := dk_182 0 72 (dk_at dksX7_acts_1 13 rfl rfl)
theorem dX7_acts_39 : decode cX7_acts 39 = .ok (.ifCond .eq 5, 3) := dk_153 0 5 (dk_at dksX7_acts_1 16 rfl rfl)
theorem dX7_acts_42 : decode cX7_acts 42 = .ok (.iconst 3, 1) := dk_6 (dk_at dksX7_acts_1 19 rfl rfl)
theorem dX7_acts_43 : decode cX7_acts 43 = .ok (.ireturn, 1) := dk_172 (dk_at dksX7_acts_1 20 rfl rfl)
theorem dX7_acts_44 : decode cX7_acts 44 = .ok (.aload_n 0, 1) := dk_42 (dk_at dksX7_acts_1 21 rfl rfl)
theorem dX7_acts_45 : decode cX7_acts 45 = .ok (.ldc 91, 2) := dk_18 91 (dk_at dksX7_acts_1 22 rfl rfl)
theorem dX7_acts_47 : decode cX7_acts 47 = .ok (.invokevirtual 72, 3) := dk_182 0 72 (dk_at dksX7_acts_2 0 rfl rfl)
theorem dX7_acts_50 : decode cX7_acts 50 = .ok (.ifCond .eq 5, 3) := dk_153 0 5 (dk_at dksX7_acts_2 3 rfl rfl)
theorem dX7_acts_53 : decode cX7_acts 53 = .ok (.iconst 4, 1) := dk_7 (dk_at dksX7_acts_2 6 rfl rfl)
theorem dX7_acts_54 : decode cX7_acts 54 = .ok (.ireturn, 1) := dk_172 (dk_at dksX7_acts_2 7 rfl rfl)
theorem dX7_acts_55 : decode cX7_acts 55 = .ok (.aload_n 0, 1) := dk_42 (dk_at dksX7_acts_2 8 rfl rfl)
theorem dX7_acts_56 : decode cX7_acts 56 = .ok (.ldc 93, 2) := dk_18 93 (dk_at dksX7_acts_2 9 rfl rfl)
theorem dX7_acts_58 : decode cX7_acts 58 = .ok (.invokevirtual 72, 3) := dk_182 0 72 (dk_at dksX7_acts_2 11 rfl rfl)
theorem dX7_acts_61 : decode cX7_acts 61 = .ok (.ifCond .eq 5, 3) := dk_153 0 5 (dk_at dksX7_acts_2 14 rfl rfl)
theorem dX7_acts_64 : decode cX7_acts 64 = .ok (.iconst 5, 1) := dk_8 (dk_at dksX7_acts_2 17 rfl rfl)
theorem dX7_acts_65 : decode cX7_acts 65 = .ok (.ireturn, 1) := dk_172 (dk_at dksX7_acts_2 18 rfl rfl)
theorem dX7_acts_66 : decode cX7_acts 66 = .ok (.aload_n 0, 1) := dk_42 (dk_at dksX7_acts_2 19 rfl rfl)
theorem dX7_acts_67 : decode cX7_acts 67 = .ok (.ldc 95, 2) := dk_18 95 (dk_at dksX7_acts_2 20 rfl rfl)
theorem dX7_acts_69 : decode cX7_acts 69 = .ok (.invokevirtual 72, 3) := dk_182 0 72 (dk_at dksX7_acts_3 0 rfl rfl)
theorem dX7_acts_72 : decode cX7_acts 72 = .ok (.ifCond .eq 8, 3) := dk_153 0 8 (dk_at dksX7_acts_3 3 rfl rfl)
theorem dX7_acts_75 : decode cX7_acts 75 = .ok (.bipush 6, 2) := dk_16 6 (dk_at dksX7_acts_3 6 rfl rfl)
theorem dX7_acts_77 : decode cX7_acts 77 = .ok (.goto 4, 3) := dk_167 0 4 (dk_at dksX7_acts_3 8 rfl rfl)
theorem dX7_acts_80 : decode cX7_acts 80 = .ok (.iconst (-1), 1) := dk_2 (dk_at dksX7_acts_3 11 rfl rfl)
theorem dX7_acts_81 : decode cX7_acts 81 = .ok (.ireturn, 1) := dk_172 (dk_at dksX7_acts_3 12 rfl rfl)
abbrev cX7_tests : ByteArray := prog_9_method_14_code
def yX7_tests : MethodName := ⟨RX7, "tests", "()I"⟩
def dkwX7_tests_1 : List UInt8 := [167, 0, 17, 42, 18, 101, 182, 0, 72, 153, 0, 7, 5, 167, 0, 4, 2, 172]
abbrev dktX7_tests_1 : List UInt8 := dkwX7_tests_1 ++ []
def dkwX7_tests_0 : List UInt8 := [42, 18, 97, 182, 0, 72, 153, 0, 7, 3, 167, 0, 30, 42, 18, 99, 182, 0, 72, 153, 0, 7, 4]
abbrev dktX7_tests_0 : List UInt8 := dkwX7_tests_0 ++ dktX7_tests_1
theorem dksX7_tests_0 : cX7_tests.data.toList.drop 0 = dktX7_tests_0 := by decide +kernel
theorem dksX7_tests_1 : cX7_tests.data.toList.drop 23 = dktX7_tests_1 := dk_seg dksX7_tests_0 23 rfl rfl
theorem dX7_tests_0 : decode cX7_tests 0 = .ok (.aload_n 0, 1) := dk_42 (dk_at dksX7_tests_0 0 rfl rfl)
theorem dX7_tests_1 : decode cX7_tests 1 = .ok (.ldc 97, 2) := dk_18 97 (dk_at dksX7_tests_0 1 rfl rfl)
theorem dX7_tests_3 : decode cX7_tests 3 = .ok (.invokevirtual 72, 3) := dk_182 0 72 (dk_at dksX7_tests_0 3 rfl rfl)
theorem dX7_tests_6 : decode cX7_tests 6 = .ok (.ifCond .eq 7, 3) := dk_153 0 7 (dk_at dksX7_tests_0 6 rfl rfl)
theorem dX7_tests_9 : decode cX7_tests 9 = .ok (.iconst 0, 1) := dk_3 (dk_at dksX7_tests_0 9 rfl rfl)
theorem dX7_tests_10 : decode cX7_tests 10 = .ok (.goto 30, 3) := dk_167 0 30 (dk_at dksX7_tests_0 10 rfl rfl)
theorem dX7_tests_13 : decode cX7_tests 13 = .ok (.aload_n 0, 1) := dk_42 (dk_at dksX7_tests_0 13 rfl rfl)
theorem dX7_tests_14 : decode cX7_tests 14 = .ok (.ldc 99, 2) := dk_18 99 (dk_at dksX7_tests_0 14 rfl rfl)
theorem dX7_tests_16 : decode cX7_tests 16 = .ok (.invokevirtual 72, 3) := dk_182 0 72 (dk_at dksX7_tests_0 16 rfl rfl)
theorem dX7_tests_19 : decode cX7_tests 19 = .ok (.ifCond .eq 7, 3) := dk_153 0 7 (dk_at dksX7_tests_0 19 rfl rfl)
theorem dX7_tests_22 : decode cX7_tests 22 = .ok (.iconst 1, 1) := dk_4 (dk_at dksX7_tests_0 22 rfl rfl)
theorem dX7_tests_23 : decode cX7_tests 23 = .ok (.goto 17, 3) := dk_167 0 17 (dk_at dksX7_tests_1 0 rfl rfl)
theorem dX7_tests_26 : decode cX7_tests 26 = .ok (.aload_n 0, 1) := dk_42 (dk_at dksX7_tests_1 3 rfl rfl)
theorem dX7_tests_27 : decode cX7_tests 27 = .ok (.ldc 101, 2) := dk_18 101 (dk_at dksX7_tests_1 4 rfl rfl)
theorem dX7_tests_29 : decode cX7_tests 29 = .ok (.invokevirtual 72, 3) := dk_182 0 72 (dk_at dksX7_tests_1 6 rfl rfl)
theorem dX7_tests_32 : decode cX7_tests 32 = .ok (.ifCond .eq 7, 3) := dk_153 0 7 (dk_at dksX7_tests_1 9 rfl rfl)
theorem dX7_tests_35 : decode cX7_tests 35 = .ok (.iconst 2, 1) := dk_5 (dk_at dksX7_tests_1 12 rfl rfl)
theorem dX7_tests_36 : decode cX7_tests 36 = .ok (.goto 4, 3) := dk_167 0 4 (dk_at dksX7_tests_1 13 rfl rfl)
theorem dX7_tests_39 : decode cX7_tests 39 = .ok (.iconst (-1), 1) := dk_2 (dk_at dksX7_tests_1 16 rfl rfl)
theorem dX7_tests_40 : decode cX7_tests 40 = .ok (.ireturn, 1) := dk_172 (dk_at dksX7_tests_1 17 rfl rfl)
abbrev cX7_behind : ByteArray := prog_9_method_11_code
def yX7_behind : MethodName := ⟨RX7, "behind", "(Ljava/lang/String;II)I"⟩
def dkwX7_behind_0 : List UInt8 := [42, 43, 182, 0, 76, 42, 28, 29, 182, 0, 80, 172]
abbrev dktX7_behind_0 : List UInt8 := dkwX7_behind_0 ++ []
theorem dksX7_behind_0 : cX7_behind.data.toList.drop 0 = dktX7_behind_0 := by decide +kernel
theorem dX7_behind_0 : decode cX7_behind 0 = .ok (.aload_n 0, 1) := dk_42 (dk_at dksX7_behind_0 0 rfl rfl)
theorem dX7_behind_1 : decode cX7_behind 1 = .ok (.aload_n 1, 1) := dk_43 (dk_at dksX7_behind_0 1 rfl rfl)
theorem dX7_behind_2 : decode cX7_behind 2 = .ok (.invokevirtual 76, 3) := dk_182 0 76 (dk_at dksX7_behind_0 2 rfl rfl)
theorem dX7_behind_5 : decode cX7_behind 5 = .ok (.aload_n 0, 1) := dk_42 (dk_at dksX7_behind_0 5 rfl rfl)
theorem dX7_behind_6 : decode cX7_behind 6 = .ok (.iload_n 2, 1) := dk_28 (dk_at dksX7_behind_0 6 rfl rfl)
theorem dX7_behind_7 : decode cX7_behind 7 = .ok (.iload_n 3, 1) := dk_29 (dk_at dksX7_behind_0 7 rfl rfl)
theorem dX7_behind_8 : decode cX7_behind 8 = .ok (.invokevirtual 80, 3) := dk_182 0 80 (dk_at dksX7_behind_0 8 rfl rfl)
theorem dX7_behind_11 : decode cX7_behind 11 = .ok (.ireturn, 1) := dk_172 (dk_at dksX7_behind_0 11 rfl rfl)
abbrev cX7_word : ByteArray := prog_9_method_9_code
def yX7_word : MethodName := ⟨RX7, "word", "(Ljava/lang/String;)V"⟩
def dkwX7_word_0 : List UInt8 := [42, 43, 182, 0, 72, 154, 0, 8, 42, 182, 0, 68, 191, 42, 182, 0, 19, 177]
abbrev dktX7_word_0 : List UInt8 := dkwX7_word_0 ++ []
theorem dksX7_word_0 : cX7_word.data.toList.drop 0 = dktX7_word_0 := by decide +kernel
theorem dX7_word_0 : decode cX7_word 0 = .ok (.aload_n 0, 1) := dk_42 (dk_at dksX7_word_0 0 rfl rfl)
theorem dX7_word_1 : decode cX7_word 1 = .ok (.aload_n 1, 1) := dk_43 (dk_at dksX7_word_0 1 rfl rfl)
theorem dX7_word_2 : decode cX7_word 2 = .ok (.invokevirtual 72, 3) := dk_182 0 72 (dk_at dksX7_word_0 2 rfl rfl)
theorem dX7_word_5 : decode cX7_word 5 = .ok (.ifCond .ne 8, 3) := dk_154 0 8 (dk_at dksX7_word_0 5 rfl rfl)
theorem dX7_word_8 : decode cX7_word 8 = .ok (.aload_n 0, 1) := dk_42 (dk_at dksX7_word_0 8 rfl rfl)
theorem dX7_word_9 : decode cX7_word 9 = .ok (.invokevirtual 68, 3) := dk_182 0 68 (dk_at dksX7_word_0 9 rfl rfl)
theorem dX7_word_12 : decode cX7_word 12 = .ok (.athrow, 1) := dk_191 (dk_at dksX7_word_0 12 rfl rfl)
theorem dX7_word_13 : decode cX7_word 13 = .ok (.aload_n 0, 1) := dk_42 (dk_at dksX7_word_0 13 rfl rfl)
theorem dX7_word_14 : decode cX7_word 14 = .ok (.invokevirtual 19, 3) := dk_182 0 19 (dk_at dksX7_word_0 14 rfl rfl)
theorem dX7_word_17 : decode cX7_word 17 = .ok (.return_, 1) := dk_177 (dk_at dksX7_word_0 17 rfl rfl)
abbrev cX7_reads : ByteArray := prog_9_method_12_code
def yX7_reads : MethodName := ⟨RX7, "reads", "(Ljava/lang/String;)Z"⟩
def dkwX7_reads_0 : List UInt8 := [42, 43, 182, 0, 72, 154, 0, 5, 3, 172, 42, 182, 0, 19, 4, 172]
abbrev dktX7_reads_0 : List UInt8 := dkwX7_reads_0 ++ []
theorem dksX7_reads_0 : cX7_reads.data.toList.drop 0 = dktX7_reads_0 := by decide +kernel
theorem dX7_reads_0 : decode cX7_reads 0 = .ok (.aload_n 0, 1) := dk_42 (dk_at dksX7_reads_0 0 rfl rfl)
theorem dX7_reads_1 : decode cX7_reads 1 = .ok (.aload_n 1, 1) := dk_43 (dk_at dksX7_reads_0 1 rfl rfl)
theorem dX7_reads_2 : decode cX7_reads 2 = .ok (.invokevirtual 72, 3) := dk_182 0 72 (dk_at dksX7_reads_0 2 rfl rfl)
theorem dX7_reads_5 : decode cX7_reads 5 = .ok (.ifCond .ne 5, 3) := dk_154 0 5 (dk_at dksX7_reads_0 5 rfl rfl)
theorem dX7_reads_8 : decode cX7_reads 8 = .ok (.iconst 0, 1) := dk_3 (dk_at dksX7_reads_0 8 rfl rfl)
theorem dX7_reads_9 : decode cX7_reads 9 = .ok (.ireturn, 1) := dk_172 (dk_at dksX7_reads_0 9 rfl rfl)
theorem dX7_reads_10 : decode cX7_reads 10 = .ok (.aload_n 0, 1) := dk_42 (dk_at dksX7_reads_0 10 rfl rfl)
theorem dX7_reads_11 : decode cX7_reads 11 = .ok (.invokevirtual 19, 3) := dk_182 0 19 (dk_at dksX7_reads_0 11 rfl rfl)
theorem dX7_reads_14 : decode cX7_reads 14 = .ok (.iconst 1, 1) := dk_4 (dk_at dksX7_reads_0 14 rfl rfl)
theorem dX7_reads_15 : decode cX7_reads 15 = .ok (.ireturn, 1) := dk_172 (dk_at dksX7_reads_0 15 rfl rfl)
abbrev cX7_newPerson : ByteArray := prog_9_method_24_code
def yX7_newPerson : MethodName := ⟨RX7, "newPerson", "(LIslandCall$Boat;)V"⟩
def dkwX7_newPerson_5 : List UInt8 := [167, 0, 4, 2, 126, 181, 0, 219, 43, 180, 0, 222, 28, 33, 80, 177]
abbrev dktX7_newPerson_5 : List UInt8 := dkwX7_newPerson_5 ++ []
def dkwX7_newPerson_4 : List UInt8 := [180, 0, 216, 28, 21, 7, 79, 43, 89, 180, 0, 219, 21, 6, 153, 0, 11, 4, 28, 120, 2, 130]
abbrev dktX7_newPerson_4 : List UInt8 := dkwX7_newPerson_4 ++ dktX7_newPerson_5
def dkwX7_newPerson_3 : List UInt8 := [182, 0, 145, 21, 7, 182, 0, 158, 120, 128, 54, 7, 167, 255, 227, 43, 21, 5, 182, 0, 212, 43]
abbrev dktX7_newPerson_3 : List UInt8 := dkwX7_newPerson_3 ++ dktX7_newPerson_4
def dkwX7_newPerson_2 : List UInt8 := [182, 0, 202, 153, 0, 35, 42, 180, 0, 32, 4, 160, 0, 27, 21, 7, 4, 42, 43, 42, 182, 0, 141]
abbrev dktX7_newPerson_2 : List UInt8 := dkwX7_newPerson_2 ++ dktX7_newPerson_3
def dkwX7_newPerson_1 : List UInt8 := [18, 101, 3, 16, 9, 182, 0, 197, 54, 5, 42, 18, 97, 182, 0, 202, 54, 6, 3, 54, 7, 42, 18, 117]
abbrev dktX7_newPerson_1 : List UInt8 := dkwX7_newPerson_1 ++ dktX7_newPerson_2
def dkwX7_newPerson_0 : List UInt8 := [43, 180, 0, 209, 61, 42, 43, 28, 16, 8, 162, 0, 7, 4, 167, 0, 4, 3, 182, 0, 189, 66, 42]
abbrev dktX7_newPerson_0 : List UInt8 := dkwX7_newPerson_0 ++ dktX7_newPerson_1
theorem dksX7_newPerson_0 : cX7_newPerson.data.toList.drop 0 = dktX7_newPerson_0 := by decide +kernel
theorem dksX7_newPerson_1 : cX7_newPerson.data.toList.drop 23 = dktX7_newPerson_1 := dk_seg dksX7_newPerson_0 23 rfl rfl
theorem dksX7_newPerson_2 : cX7_newPerson.data.toList.drop 47 = dktX7_newPerson_2 := dk_seg dksX7_newPerson_1 24 rfl rfl
theorem dksX7_newPerson_3 : cX7_newPerson.data.toList.drop 70 = dktX7_newPerson_3 := dk_seg dksX7_newPerson_2 23 rfl rfl
theorem dksX7_newPerson_4 : cX7_newPerson.data.toList.drop 92 = dktX7_newPerson_4 := dk_seg dksX7_newPerson_3 22 rfl rfl
theorem dksX7_newPerson_5 : cX7_newPerson.data.toList.drop 114 = dktX7_newPerson_5 := dk_seg dksX7_newPerson_4 22 rfl rfl
theorem dX7_newPerson_0 : decode cX7_newPerson 0 = .ok (.aload_n 1, 1) := dk_43 (dk_at dksX7_newPerson_0 0 rfl rfl)
theorem dX7_newPerson_1 : decode cX7_newPerson 1 = .ok (.getfield 209, 3) := dk_180 0 209 (dk_at dksX7_newPerson_0 1 rfl rfl)
theorem dX7_newPerson_4 : decode cX7_newPerson 4 = .ok (.istore_n 2, 1) := dk_61 (dk_at dksX7_newPerson_0 4 rfl rfl)
theorem dX7_newPerson_5 : decode cX7_newPerson 5 = .ok (.aload_n 0, 1) := dk_42 (dk_at dksX7_newPerson_0 5 rfl rfl)
theorem dX7_newPerson_6 : decode cX7_newPerson 6 = .ok (.aload_n 1, 1) := dk_43 (dk_at dksX7_newPerson_0 6 rfl rfl)
theorem dX7_newPerson_7 : decode cX7_newPerson 7 = .ok (.iload_n 2, 1) := dk_28 (dk_at dksX7_newPerson_0 7 rfl rfl)
theorem dX7_newPerson_8 : decode cX7_newPerson 8 = .ok (.bipush 8, 2) := dk_16 8 (dk_at dksX7_newPerson_0 8 rfl rfl)
theorem dX7_newPerson_10 : decode cX7_newPerson 10 = .ok (.if_icmp .ge 7, 3) := dk_162 0 7 (dk_at dksX7_newPerson_0 10 rfl rfl)
theorem dX7_newPerson_13 : decode cX7_newPerson 13 = .ok (.iconst 1, 1) := dk_4 (dk_at dksX7_newPerson_0 13 rfl rfl)
theorem dX7_newPerson_14 : decode cX7_newPerson 14 = .ok (.goto 4, 3) := dk_167 0 4 (dk_at dksX7_newPerson_0 14 rfl rfl)
theorem dX7_newPerson_17 : decode cX7_newPerson 17 = .ok (.iconst 0, 1) := dk_3 (dk_at dksX7_newPerson_0 17 rfl rfl)
theorem dX7_newPerson_18 : decode cX7_newPerson 18 = .ok (.invokevirtual 189, 3) := dk_182 0 189 (dk_at dksX7_newPerson_0 18 rfl rfl)
theorem dX7_newPerson_21 : decode cX7_newPerson 21 = .ok (.lstore_n 3, 1) := dk_66 (dk_at dksX7_newPerson_0 21 rfl rfl)
theorem dX7_newPerson_22 : decode cX7_newPerson 22 = .ok (.aload_n 0, 1) := dk_42 (dk_at dksX7_newPerson_0 22 rfl rfl)
theorem dX7_newPerson_23 : decode cX7_newPerson 23 = .ok (.ldc 101, 2) := dk_18 101 (dk_at dksX7_newPerson_1 0 rfl rfl)
theorem dX7_newPerson_25 : decode cX7_newPerson 25 = .ok (.iconst 0, 1) := dk_3 (dk_at dksX7_newPerson_1 2 rfl rfl)
theorem dX7_newPerson_26 : decode cX7_newPerson 26 = .ok (.bipush 9, 2) := dk_16 9 (dk_at dksX7_newPerson_1 3 rfl rfl)
theorem dX7_newPerson_28 : decode cX7_newPerson 28 = .ok (.invokevirtual 197, 3) := dk_182 0 197 (dk_at dksX7_newPerson_1 5 rfl rfl)
theorem dX7_newPerson_31 : decode cX7_newPerson 31 = .ok (.istore 5, 2) := dk_54 5 (dk_at dksX7_newPerson_1 8 rfl rfl)
theorem dX7_newPerson_33 : decode cX7_newPerson 33 = .ok (.aload_n 0, 1) := dk_42 (dk_at dksX7_newPerson_1 10 rfl rfl)
theorem dX7_newPerson_34 : decode cX7_newPerson 34 = .ok (.ldc 97, 2) := dk_18 97 (dk_at dksX7_newPerson_1 11 rfl rfl)
theorem dX7_newPerson_36 : decode cX7_newPerson 36 = .ok (.invokevirtual 202, 3) := dk_182 0 202 (dk_at dksX7_newPerson_1 13 rfl rfl)
theorem dX7_newPerson_39 : decode cX7_newPerson 39 = .ok (.istore 6, 2) := dk_54 6 (dk_at dksX7_newPerson_1 16 rfl rfl)
theorem dX7_newPerson_41 : decode cX7_newPerson 41 = .ok (.iconst 0, 1) := dk_3 (dk_at dksX7_newPerson_1 18 rfl rfl)
theorem dX7_newPerson_42 : decode cX7_newPerson 42 = .ok (.istore 7, 2) := dk_54 7 (dk_at dksX7_newPerson_1 19 rfl rfl)
theorem dX7_newPerson_44 : decode cX7_newPerson 44 = .ok (.aload_n 0, 1) := dk_42 (dk_at dksX7_newPerson_1 21 rfl rfl)
theorem dX7_newPerson_45 : decode cX7_newPerson 45 = .ok (.ldc 117, 2) := dk_18 117 (dk_at dksX7_newPerson_1 22 rfl rfl)
theorem dX7_newPerson_47 : decode cX7_newPerson 47 = .ok (.invokevirtual 202, 3) := dk_182 0 202 (dk_at dksX7_newPerson_2 0 rfl rfl)
theorem dX7_newPerson_50 : decode cX7_newPerson 50 = .ok (.ifCond .eq 35, 3) := dk_153 0 35 (dk_at dksX7_newPerson_2 3 rfl rfl)
theorem dX7_newPerson_53 : decode cX7_newPerson 53 = .ok (.aload_n 0, 1) := dk_42 (dk_at dksX7_newPerson_2 6 rfl rfl)
theorem dX7_newPerson_54 : decode cX7_newPerson 54 = .ok (.getfield 32, 3) := dk_180 0 32 (dk_at dksX7_newPerson_2 7 rfl rfl)
theorem dX7_newPerson_57 : decode cX7_newPerson 57 = .ok (.iconst 1, 1) := dk_4 (dk_at dksX7_newPerson_2 10 rfl rfl)
theorem dX7_newPerson_58 : decode cX7_newPerson 58 = .ok (.if_icmp .ne 27, 3) := dk_160 0 27 (dk_at dksX7_newPerson_2 11 rfl rfl)
theorem dX7_newPerson_61 : decode cX7_newPerson 61 = .ok (.iload 7, 2) := dk_21 7 (dk_at dksX7_newPerson_2 14 rfl rfl)
theorem dX7_newPerson_63 : decode cX7_newPerson 63 = .ok (.iconst 1, 1) := dk_4 (dk_at dksX7_newPerson_2 16 rfl rfl)
theorem dX7_newPerson_64 : decode cX7_newPerson 64 = .ok (.aload_n 0, 1) := dk_42 (dk_at dksX7_newPerson_2 17 rfl rfl)
theorem dX7_newPerson_65 : decode cX7_newPerson 65 = .ok (.aload_n 1, 1) := dk_43 (dk_at dksX7_newPerson_2 18 rfl rfl)
theorem dX7_newPerson_66 : decode cX7_newPerson 66 = .ok (.aload_n 0, 1) := dk_42 (dk_at dksX7_newPerson_2 19 rfl rfl)
theorem dX7_newPerson_67 : decode cX7_newPerson 67 = .ok (.invokevirtual 141, 3) := dk_182 0 141 (dk_at dksX7_newPerson_2 20 rfl rfl)
theorem dX7_newPerson_70 : decode cX7_newPerson 70 = .ok (.invokevirtual 145, 3) := dk_182 0 145 (dk_at dksX7_newPerson_3 0 rfl rfl)
theorem dX7_newPerson_73 : decode cX7_newPerson 73 = .ok (.iload 7, 2) := dk_21 7 (dk_at dksX7_newPerson_3 3 rfl rfl)
theorem dX7_newPerson_75 : decode cX7_newPerson 75 = .ok (.invokevirtual 158, 3) := dk_182 0 158 (dk_at dksX7_newPerson_3 5 rfl rfl)
theorem dX7_newPerson_78 : decode cX7_newPerson 78 = .ok (.ishl, 1) := dk_120 (dk_at dksX7_newPerson_3 8 rfl rfl)
theorem dX7_newPerson_79 : decode cX7_newPerson 79 = .ok (.ior, 1) := dk_128 (dk_at dksX7_newPerson_3 9 rfl rfl)
theorem dX7_newPerson_80 : decode cX7_newPerson 80 = .ok (.istore 7, 2) := dk_54 7 (dk_at dksX7_newPerson_3 10 rfl rfl)
theorem dX7_newPerson_82 : decode cX7_newPerson 82 = .ok (.goto (-29), 3) := dk_167 255 227 (dk_at dksX7_newPerson_3 12 rfl rfl)
theorem dX7_newPerson_85 : decode cX7_newPerson 85 = .ok (.aload_n 1, 1) := dk_43 (dk_at dksX7_newPerson_3 15 rfl rfl)
theorem dX7_newPerson_86 : decode cX7_newPerson 86 = .ok (.iload 5, 2) := dk_21 5 (dk_at dksX7_newPerson_3 16 rfl rfl)
theorem dX7_newPerson_88 : decode cX7_newPerson 88 = .ok (.invokevirtual 212, 3) := dk_182 0 212 (dk_at dksX7_newPerson_3 18 rfl rfl)
theorem dX7_newPerson_91 : decode cX7_newPerson 91 = .ok (.aload_n 1, 1) := dk_43 (dk_at dksX7_newPerson_3 21 rfl rfl)
theorem dX7_newPerson_92 : decode cX7_newPerson 92 = .ok (.getfield 216, 3) := dk_180 0 216 (dk_at dksX7_newPerson_4 0 rfl rfl)
theorem dX7_newPerson_95 : decode cX7_newPerson 95 = .ok (.iload_n 2, 1) := dk_28 (dk_at dksX7_newPerson_4 3 rfl rfl)
theorem dX7_newPerson_96 : decode cX7_newPerson 96 = .ok (.iload 7, 2) := dk_21 7 (dk_at dksX7_newPerson_4 4 rfl rfl)
theorem dX7_newPerson_98 : decode cX7_newPerson 98 = .ok (.iastore, 1) := dk_79 (dk_at dksX7_newPerson_4 6 rfl rfl)
theorem dX7_newPerson_99 : decode cX7_newPerson 99 = .ok (.aload_n 1, 1) := dk_43 (dk_at dksX7_newPerson_4 7 rfl rfl)
theorem dX7_newPerson_100 : decode cX7_newPerson 100 = .ok (.dup, 1) := dk_89 (dk_at dksX7_newPerson_4 8 rfl rfl)
theorem dX7_newPerson_101 : decode cX7_newPerson 101 = .ok (.getfield 219, 3) := dk_180 0 219 (dk_at dksX7_newPerson_4 9 rfl rfl)
theorem dX7_newPerson_104 : decode cX7_newPerson 104 = .ok (.iload 6, 2) := dk_21 6 (dk_at dksX7_newPerson_4 12 rfl rfl)
theorem dX7_newPerson_106 : decode cX7_newPerson 106 = .ok (.ifCond .eq 11, 3) := dk_153 0 11 (dk_at dksX7_newPerson_4 14 rfl rfl)
theorem dX7_newPerson_109 : decode cX7_newPerson 109 = .ok (.iconst 1, 1) := dk_4 (dk_at dksX7_newPerson_4 17 rfl rfl)
theorem dX7_newPerson_110 : decode cX7_newPerson 110 = .ok (.iload_n 2, 1) := dk_28 (dk_at dksX7_newPerson_4 18 rfl rfl)
theorem dX7_newPerson_111 : decode cX7_newPerson 111 = .ok (.ishl, 1) := dk_120 (dk_at dksX7_newPerson_4 19 rfl rfl)
theorem dX7_newPerson_112 : decode cX7_newPerson 112 = .ok (.iconst (-1), 1) := dk_2 (dk_at dksX7_newPerson_4 20 rfl rfl)
theorem dX7_newPerson_113 : decode cX7_newPerson 113 = .ok (.ixor, 1) := dk_130 (dk_at dksX7_newPerson_4 21 rfl rfl)
theorem dX7_newPerson_114 : decode cX7_newPerson 114 = .ok (.goto 4, 3) := dk_167 0 4 (dk_at dksX7_newPerson_5 0 rfl rfl)
theorem dX7_newPerson_117 : decode cX7_newPerson 117 = .ok (.iconst (-1), 1) := dk_2 (dk_at dksX7_newPerson_5 3 rfl rfl)
theorem dX7_newPerson_118 : decode cX7_newPerson 118 = .ok (.iand, 1) := dk_126 (dk_at dksX7_newPerson_5 4 rfl rfl)
theorem dX7_newPerson_119 : decode cX7_newPerson 119 = .ok (.putfield 219, 3) := dk_181 0 219 (dk_at dksX7_newPerson_5 5 rfl rfl)
theorem dX7_newPerson_122 : decode cX7_newPerson 122 = .ok (.aload_n 1, 1) := dk_43 (dk_at dksX7_newPerson_5 8 rfl rfl)
theorem dX7_newPerson_123 : decode cX7_newPerson 123 = .ok (.getfield 222, 3) := dk_180 0 222 (dk_at dksX7_newPerson_5 9 rfl rfl)
theorem dX7_newPerson_126 : decode cX7_newPerson 126 = .ok (.iload_n 2, 1) := dk_28 (dk_at dksX7_newPerson_5 12 rfl rfl)
theorem dX7_newPerson_127 : decode cX7_newPerson 127 = .ok (.lload_n 3, 1) := dk_33 (dk_at dksX7_newPerson_5 13 rfl rfl)
theorem dX7_newPerson_128 : decode cX7_newPerson 128 = .ok (.lastore, 1) := dk_80 (dk_at dksX7_newPerson_5 14 rfl rfl)
theorem dX7_newPerson_129 : decode cX7_newPerson 129 = .ok (.return_, 1) := dk_177 (dk_at dksX7_newPerson_5 15 rfl rfl)
abbrev cX7_known : ByteArray := prog_9_method_18_code
def yX7_known : MethodName := ⟨RX7, "known", "(II)I"⟩
def dkwX7_known_2 : List UInt8 := [182, 0, 19, 27, 172]
abbrev dktX7_known_2 : List UInt8 := dkwX7_known_2 ++ []
def dkwX7_known_1 : List UInt8 := [184, 0, 154, 153, 0, 19, 42, 180, 0, 3, 180, 0, 55, 8, 42, 180, 0, 29, 182, 0, 59, 191, 42]
abbrev dktX7_known_1 : List UInt8 := dkwX7_known_1 ++ dktX7_known_2
def dkwX7_known_0 : List UInt8 := [27, 156, 0, 19, 42, 180, 0, 3, 180, 0, 55, 6, 42, 180, 0, 29, 182, 0, 59, 191, 28, 27]
abbrev dktX7_known_0 : List UInt8 := dkwX7_known_0 ++ dktX7_known_1
theorem dksX7_known_0 : cX7_known.data.toList.drop 0 = dktX7_known_0 := by decide +kernel
theorem dksX7_known_1 : cX7_known.data.toList.drop 22 = dktX7_known_1 := dk_seg dksX7_known_0 22 rfl rfl
theorem dksX7_known_2 : cX7_known.data.toList.drop 45 = dktX7_known_2 := dk_seg dksX7_known_1 23 rfl rfl
theorem dX7_known_0 : decode cX7_known 0 = .ok (.iload_n 1, 1) := dk_27 (dk_at dksX7_known_0 0 rfl rfl)
theorem dX7_known_1 : decode cX7_known 1 = .ok (.ifCond .ge 19, 3) := dk_156 0 19 (dk_at dksX7_known_0 1 rfl rfl)
theorem dX7_known_4 : decode cX7_known 4 = .ok (.aload_n 0, 1) := dk_42 (dk_at dksX7_known_0 4 rfl rfl)
theorem dX7_known_5 : decode cX7_known 5 = .ok (.getfield 3, 3) := dk_180 0 3 (dk_at dksX7_known_0 5 rfl rfl)
theorem dX7_known_8 : decode cX7_known 8 = .ok (.getfield 55, 3) := dk_180 0 55 (dk_at dksX7_known_0 8 rfl rfl)
theorem dX7_known_11 : decode cX7_known 11 = .ok (.iconst 3, 1) := dk_6 (dk_at dksX7_known_0 11 rfl rfl)
theorem dX7_known_12 : decode cX7_known 12 = .ok (.aload_n 0, 1) := dk_42 (dk_at dksX7_known_0 12 rfl rfl)
theorem dX7_known_13 : decode cX7_known 13 = .ok (.getfield 29, 3) := dk_180 0 29 (dk_at dksX7_known_0 13 rfl rfl)
theorem dX7_known_16 : decode cX7_known 16 = .ok (.invokevirtual 59, 3) := dk_182 0 59 (dk_at dksX7_known_0 16 rfl rfl)
theorem dX7_known_19 : decode cX7_known 19 = .ok (.athrow, 1) := dk_191 (dk_at dksX7_known_0 19 rfl rfl)
theorem dX7_known_20 : decode cX7_known 20 = .ok (.iload_n 2, 1) := dk_28 (dk_at dksX7_known_0 20 rfl rfl)
theorem dX7_known_21 : decode cX7_known 21 = .ok (.iload_n 1, 1) := dk_27 (dk_at dksX7_known_0 21 rfl rfl)
theorem dX7_known_22 : decode cX7_known 22 = .ok (.invokestatic 154, 3) := dk_184 0 154 (dk_at dksX7_known_1 0 rfl rfl)
theorem dX7_known_25 : decode cX7_known 25 = .ok (.ifCond .eq 19, 3) := dk_153 0 19 (dk_at dksX7_known_1 3 rfl rfl)
theorem dX7_known_28 : decode cX7_known 28 = .ok (.aload_n 0, 1) := dk_42 (dk_at dksX7_known_1 6 rfl rfl)
theorem dX7_known_29 : decode cX7_known 29 = .ok (.getfield 3, 3) := dk_180 0 3 (dk_at dksX7_known_1 7 rfl rfl)
theorem dX7_known_32 : decode cX7_known 32 = .ok (.getfield 55, 3) := dk_180 0 55 (dk_at dksX7_known_1 10 rfl rfl)
theorem dX7_known_35 : decode cX7_known 35 = .ok (.iconst 5, 1) := dk_8 (dk_at dksX7_known_1 13 rfl rfl)
theorem dX7_known_36 : decode cX7_known 36 = .ok (.aload_n 0, 1) := dk_42 (dk_at dksX7_known_1 14 rfl rfl)
theorem dX7_known_37 : decode cX7_known 37 = .ok (.getfield 29, 3) := dk_180 0 29 (dk_at dksX7_known_1 15 rfl rfl)
theorem dX7_known_40 : decode cX7_known 40 = .ok (.invokevirtual 59, 3) := dk_182 0 59 (dk_at dksX7_known_1 18 rfl rfl)
theorem dX7_known_43 : decode cX7_known 43 = .ok (.athrow, 1) := dk_191 (dk_at dksX7_known_1 21 rfl rfl)
theorem dX7_known_44 : decode cX7_known 44 = .ok (.aload_n 0, 1) := dk_42 (dk_at dksX7_known_1 22 rfl rfl)
theorem dX7_known_45 : decode cX7_known 45 = .ok (.invokevirtual 19, 3) := dk_182 0 19 (dk_at dksX7_known_2 0 rfl rfl)
theorem dX7_known_48 : decode cX7_known 48 = .ok (.iload_n 1, 1) := dk_27 (dk_at dksX7_known_2 3 rfl rfl)
theorem dX7_known_49 : decode cX7_known 49 = .ok (.ireturn, 1) := dk_172 (dk_at dksX7_known_2 4 rfl rfl)
abbrev cX7_blind : ByteArray := prog_9_method_25_code
def yX7_blind : MethodName := ⟨RX7, "blind", "(LIslandCall$Boat;)V"⟩
def dkwX7_blind_1 : List UInt8 := [182, 0, 151, 4, 28, 120, 182, 0, 158, 120, 128, 79, 177]
abbrev dktX7_blind_1 : List UInt8 := dkwX7_blind_1 ++ []
def dkwX7_blind_0 : List UInt8 := [42, 182, 0, 19, 42, 43, 182, 0, 225, 61, 43, 180, 0, 228, 28, 92, 46, 4, 42, 43, 42, 182, 0, 141]
abbrev dktX7_blind_0 : List UInt8 := dkwX7_blind_0 ++ dktX7_blind_1
theorem dksX7_blind_0 : cX7_blind.data.toList.drop 0 = dktX7_blind_0 := by decide +kernel
theorem dksX7_blind_1 : cX7_blind.data.toList.drop 24 = dktX7_blind_1 := dk_seg dksX7_blind_0 24 rfl rfl
theorem dX7_blind_0 : decode cX7_blind 0 = .ok (.aload_n 0, 1) := dk_42 (dk_at dksX7_blind_0 0 rfl rfl)
theorem dX7_blind_1 : decode cX7_blind 1 = .ok (.invokevirtual 19, 3) := dk_182 0 19 (dk_at dksX7_blind_0 1 rfl rfl)
theorem dX7_blind_4 : decode cX7_blind 4 = .ok (.aload_n 0, 1) := dk_42 (dk_at dksX7_blind_0 4 rfl rfl)
theorem dX7_blind_5 : decode cX7_blind 5 = .ok (.aload_n 1, 1) := dk_43 (dk_at dksX7_blind_0 5 rfl rfl)
theorem dX7_blind_6 : decode cX7_blind 6 = .ok (.invokevirtual 225, 3) := dk_182 0 225 (dk_at dksX7_blind_0 6 rfl rfl)
theorem dX7_blind_9 : decode cX7_blind 9 = .ok (.istore_n 2, 1) := dk_61 (dk_at dksX7_blind_0 9 rfl rfl)
theorem dX7_blind_10 : decode cX7_blind 10 = .ok (.aload_n 1, 1) := dk_43 (dk_at dksX7_blind_0 10 rfl rfl)
theorem dX7_blind_11 : decode cX7_blind 11 = .ok (.getfield 228, 3) := dk_180 0 228 (dk_at dksX7_blind_0 11 rfl rfl)
theorem dX7_blind_14 : decode cX7_blind 14 = .ok (.iload_n 2, 1) := dk_28 (dk_at dksX7_blind_0 14 rfl rfl)
theorem dX7_blind_15 : decode cX7_blind 15 = .ok (.dup2, 1) := dk_92 (dk_at dksX7_blind_0 15 rfl rfl)
theorem dX7_blind_16 : decode cX7_blind 16 = .ok (.iaload, 1) := dk_46 (dk_at dksX7_blind_0 16 rfl rfl)
theorem dX7_blind_17 : decode cX7_blind 17 = .ok (.iconst 1, 1) := dk_4 (dk_at dksX7_blind_0 17 rfl rfl)
theorem dX7_blind_18 : decode cX7_blind 18 = .ok (.aload_n 0, 1) := dk_42 (dk_at dksX7_blind_0 18 rfl rfl)
theorem dX7_blind_19 : decode cX7_blind 19 = .ok (.aload_n 1, 1) := dk_43 (dk_at dksX7_blind_0 19 rfl rfl)
theorem dX7_blind_20 : decode cX7_blind 20 = .ok (.aload_n 0, 1) := dk_42 (dk_at dksX7_blind_0 20 rfl rfl)
theorem dX7_blind_21 : decode cX7_blind 21 = .ok (.invokevirtual 141, 3) := dk_182 0 141 (dk_at dksX7_blind_0 21 rfl rfl)
theorem dX7_blind_24 : decode cX7_blind 24 = .ok (.invokevirtual 151, 3) := dk_182 0 151 (dk_at dksX7_blind_1 0 rfl rfl)
theorem dX7_blind_27 : decode cX7_blind 27 = .ok (.iconst 1, 1) := dk_4 (dk_at dksX7_blind_1 3 rfl rfl)
theorem dX7_blind_28 : decode cX7_blind 28 = .ok (.iload_n 2, 1) := dk_28 (dk_at dksX7_blind_1 4 rfl rfl)
theorem dX7_blind_29 : decode cX7_blind 29 = .ok (.ishl, 1) := dk_120 (dk_at dksX7_blind_1 5 rfl rfl)
theorem dX7_blind_30 : decode cX7_blind 30 = .ok (.invokevirtual 158, 3) := dk_182 0 158 (dk_at dksX7_blind_1 6 rfl rfl)
theorem dX7_blind_33 : decode cX7_blind 33 = .ok (.ishl, 1) := dk_120 (dk_at dksX7_blind_1 9 rfl rfl)
theorem dX7_blind_34 : decode cX7_blind 34 = .ok (.ior, 1) := dk_128 (dk_at dksX7_blind_1 10 rfl rfl)
theorem dX7_blind_35 : decode cX7_blind 35 = .ok (.iastore, 1) := dk_79 (dk_at dksX7_blind_1 11 rfl rfl)
theorem dX7_blind_36 : decode cX7_blind 36 = .ok (.return_, 1) := dk_177 (dk_at dksX7_blind_1 12 rfl rfl)
abbrev cX7_person : ByteArray := prog_9_method_20_code
def yX7_person : MethodName := ⟨RX7, "person", "(LIslandCall$Boat;)I"⟩
def dkwX7_person_0 : List UInt8 := [42, 43, 42, 182, 0, 141, 182, 0, 151, 3, 182, 0, 158, 172]
abbrev dktX7_person_0 : List UInt8 := dkwX7_person_0 ++ []
theorem dksX7_person_0 : cX7_person.data.toList.drop 0 = dktX7_person_0 := by decide +kernel
theorem dX7_person_0 : decode cX7_person 0 = .ok (.aload_n 0, 1) := dk_42 (dk_at dksX7_person_0 0 rfl rfl)
theorem dX7_person_1 : decode cX7_person 1 = .ok (.aload_n 1, 1) := dk_43 (dk_at dksX7_person_0 1 rfl rfl)
theorem dX7_person_2 : decode cX7_person 2 = .ok (.aload_n 0, 1) := dk_42 (dk_at dksX7_person_0 2 rfl rfl)
theorem dX7_person_3 : decode cX7_person 3 = .ok (.invokevirtual 141, 3) := dk_182 0 141 (dk_at dksX7_person_0 3 rfl rfl)
theorem dX7_person_6 : decode cX7_person 6 = .ok (.invokevirtual 151, 3) := dk_182 0 151 (dk_at dksX7_person_0 6 rfl rfl)
theorem dX7_person_9 : decode cX7_person 9 = .ok (.iconst 0, 1) := dk_3 (dk_at dksX7_person_0 9 rfl rfl)
theorem dX7_person_10 : decode cX7_person 10 = .ok (.invokevirtual 158, 3) := dk_182 0 158 (dk_at dksX7_person_0 10 rfl rfl)
theorem dX7_person_13 : decode cX7_person 13 = .ok (.ireturn, 1) := dk_172 (dk_at dksX7_person_0 13 rfl rfl)
abbrev cX7_close : ByteArray := prog_9_method_8_code
def yX7_close : MethodName := ⟨RX7, "close", "()V"⟩
def dkwX7_close_0 : List UInt8 := [42, 16, 59, 182, 0, 64, 154, 0, 8, 42, 182, 0, 68, 191, 42, 182, 0, 19, 177]
abbrev dktX7_close_0 : List UInt8 := dkwX7_close_0 ++ []
theorem dksX7_close_0 : cX7_close.data.toList.drop 0 = dktX7_close_0 := by decide +kernel
theorem dX7_close_0 : decode cX7_close 0 = .ok (.aload_n 0, 1) := dk_42 (dk_at dksX7_close_0 0 rfl rfl)
theorem dX7_close_1 : decode cX7_close 1 = .ok (.bipush 59, 2) := dk_16 59 (dk_at dksX7_close_0 1 rfl rfl)
theorem dX7_close_3 : decode cX7_close 3 = .ok (.invokevirtual 64, 3) := dk_182 0 64 (dk_at dksX7_close_0 3 rfl rfl)
theorem dX7_close_6 : decode cX7_close 6 = .ok (.ifCond .ne 8, 3) := dk_154 0 8 (dk_at dksX7_close_0 6 rfl rfl)
theorem dX7_close_9 : decode cX7_close 9 = .ok (.aload_n 0, 1) := dk_42 (dk_at dksX7_close_0 9 rfl rfl)
theorem dX7_close_10 : decode cX7_close 10 = .ok (.invokevirtual 68, 3) := dk_182 0 68 (dk_at dksX7_close_0 10 rfl rfl)
theorem dX7_close_13 : decode cX7_close 13 = .ok (.athrow, 1) := dk_191 (dk_at dksX7_close_0 13 rfl rfl)
theorem dX7_close_14 : decode cX7_close 14 = .ok (.aload_n 0, 1) := dk_42 (dk_at dksX7_close_0 14 rfl rfl)
theorem dX7_close_15 : decode cX7_close 15 = .ok (.invokevirtual 19, 3) := dk_182 0 19 (dk_at dksX7_close_0 15 rfl rfl)
theorem dX7_close_18 : decode cX7_close 18 = .ok (.return_, 1) := dk_177 (dk_at dksX7_close_0 18 rfl rfl)
abbrev cX7_isSign : ByteArray := prog_9_method_6_code
def yX7_isSign : MethodName := ⟨RX7, "isSign", "(C)Z"⟩
def dkwX7_isSign_1 : List UInt8 := [4, 167, 0, 4, 3, 172]
abbrev dktX7_isSign_1 : List UInt8 := dkwX7_isSign_1 ++ []
def dkwX7_isSign_0 : List UInt8 := [42, 180, 0, 32, 6, 160, 0, 23, 42, 180, 0, 3, 180, 0, 22, 42, 180, 0, 29, 51, 27, 160, 0, 7]
abbrev dktX7_isSign_0 : List UInt8 := dkwX7_isSign_0 ++ dktX7_isSign_1
theorem dksX7_isSign_0 : cX7_isSign.data.toList.drop 0 = dktX7_isSign_0 := by decide +kernel
theorem dksX7_isSign_1 : cX7_isSign.data.toList.drop 24 = dktX7_isSign_1 := dk_seg dksX7_isSign_0 24 rfl rfl
theorem dX7_isSign_0 : decode cX7_isSign 0 = .ok (.aload_n 0, 1) := dk_42 (dk_at dksX7_isSign_0 0 rfl rfl)
theorem dX7_isSign_1 : decode cX7_isSign 1 = .ok (.getfield 32, 3) := dk_180 0 32 (dk_at dksX7_isSign_0 1 rfl rfl)
theorem dX7_isSign_4 : decode cX7_isSign 4 = .ok (.iconst 3, 1) := dk_6 (dk_at dksX7_isSign_0 4 rfl rfl)
theorem dX7_isSign_5 : decode cX7_isSign 5 = .ok (.if_icmp .ne 23, 3) := dk_160 0 23 (dk_at dksX7_isSign_0 5 rfl rfl)
theorem dX7_isSign_8 : decode cX7_isSign 8 = .ok (.aload_n 0, 1) := dk_42 (dk_at dksX7_isSign_0 8 rfl rfl)
theorem dX7_isSign_9 : decode cX7_isSign 9 = .ok (.getfield 3, 3) := dk_180 0 3 (dk_at dksX7_isSign_0 9 rfl rfl)
theorem dX7_isSign_12 : decode cX7_isSign 12 = .ok (.getfield 22, 3) := dk_180 0 22 (dk_at dksX7_isSign_0 12 rfl rfl)
theorem dX7_isSign_15 : decode cX7_isSign 15 = .ok (.aload_n 0, 1) := dk_42 (dk_at dksX7_isSign_0 15 rfl rfl)
theorem dX7_isSign_16 : decode cX7_isSign 16 = .ok (.getfield 29, 3) := dk_180 0 29 (dk_at dksX7_isSign_0 16 rfl rfl)
theorem dX7_isSign_19 : decode cX7_isSign 19 = .ok (.baload, 1) := dk_51 (dk_at dksX7_isSign_0 19 rfl rfl)
theorem dX7_isSign_20 : decode cX7_isSign 20 = .ok (.iload_n 1, 1) := dk_27 (dk_at dksX7_isSign_0 20 rfl rfl)
theorem dX7_isSign_21 : decode cX7_isSign 21 = .ok (.if_icmp .ne 7, 3) := dk_160 0 7 (dk_at dksX7_isSign_0 21 rfl rfl)
theorem dX7_isSign_24 : decode cX7_isSign 24 = .ok (.iconst 1, 1) := dk_4 (dk_at dksX7_isSign_1 0 rfl rfl)
theorem dX7_isSign_25 : decode cX7_isSign 25 = .ok (.goto 4, 3) := dk_167 0 4 (dk_at dksX7_isSign_1 1 rfl rfl)
theorem dX7_isSign_28 : decode cX7_isSign 28 = .ok (.iconst 0, 1) := dk_3 (dk_at dksX7_isSign_1 4 rfl rfl)
theorem dX7_isSign_29 : decode cX7_isSign 29 = .ok (.ireturn, 1) := dk_172 (dk_at dksX7_isSign_1 5 rfl rfl)
abbrev cX7_years : ByteArray := prog_9_method_26_code
def yX7_years : MethodName := ⟨RX7, "years", "(LIslandCall$Boat;LIslandCall$Block;)V"⟩
def dkwX7_years_0 : List UInt8 := [42, 180, 0, 32, 153, 0, 13, 42, 43, 44, 3, 182, 0, 230, 167, 255, 242, 177]
abbrev dktX7_years_0 : List UInt8 := dkwX7_years_0 ++ []
theorem dksX7_years_0 : cX7_years.data.toList.drop 0 = dktX7_years_0 := by decide +kernel
theorem dX7_years_0 : decode cX7_years 0 = .ok (.aload_n 0, 1) := dk_42 (dk_at dksX7_years_0 0 rfl rfl)
theorem dX7_years_1 : decode cX7_years 1 = .ok (.getfield 32, 3) := dk_180 0 32 (dk_at dksX7_years_0 1 rfl rfl)
theorem dX7_years_4 : decode cX7_years 4 = .ok (.ifCond .eq 13, 3) := dk_153 0 13 (dk_at dksX7_years_0 4 rfl rfl)
theorem dX7_years_7 : decode cX7_years 7 = .ok (.aload_n 0, 1) := dk_42 (dk_at dksX7_years_0 7 rfl rfl)
theorem dX7_years_8 : decode cX7_years 8 = .ok (.aload_n 1, 1) := dk_43 (dk_at dksX7_years_0 8 rfl rfl)
theorem dX7_years_9 : decode cX7_years 9 = .ok (.aload_n 2, 1) := dk_44 (dk_at dksX7_years_0 9 rfl rfl)
theorem dX7_years_10 : decode cX7_years 10 = .ok (.iconst 0, 1) := dk_3 (dk_at dksX7_years_0 10 rfl rfl)
theorem dX7_years_11 : decode cX7_years 11 = .ok (.invokevirtual 230, 3) := dk_182 0 230 (dk_at dksX7_years_0 11 rfl rfl)
theorem dX7_years_14 : decode cX7_years 14 = .ok (.goto (-14), 3) := dk_167 255 242 (dk_at dksX7_years_0 14 rfl rfl)
theorem dX7_years_17 : decode cX7_years 17 = .ok (.return_, 1) := dk_177 (dk_at dksX7_years_0 17 rfl rfl)
abbrev cX7_step : ByteArray := prog_9_method_27_code
def yX7_step : MethodName := ⟨RX7, "step", "(LIslandCall$Boat;LIslandCall$Block;I)V"⟩
def dkwX7_step_5 : List UInt8 := [182, 0, 237, 167, 0, 8, 42, 43, 182, 0, 241, 58, 6, 42, 182, 0, 180, 44, 25, 6, 182, 0, 245, 177]
abbrev dktX7_step_5 : List UInt8 := dkwX7_step_5 ++ []
def dkwX7_step_4 : List UInt8 := [182, 0, 59, 191, 42, 89, 180, 0, 234, 4, 96, 181, 0, 234, 21, 5, 153, 0, 14, 42, 43, 21, 4, 29]
abbrev dktX7_step_4 : List UInt8 := dkwX7_step_4 ++ dktX7_step_5
def dkwX7_step_3 : List UInt8 := [191, 21, 5, 153, 0, 25, 29, 6, 160, 0, 20, 42, 180, 0, 3, 180, 0, 55, 16, 7, 42, 180, 0, 29]
abbrev dktX7_step_3 : List UInt8 := dkwX7_step_3 ++ dktX7_step_4
def dkwX7_step_2 : List UInt8 := [180, 0, 234, 16, 30, 160, 0, 20, 42, 180, 0, 3, 180, 0, 55, 16, 6, 42, 180, 0, 29, 182, 0, 59]
abbrev dktX7_step_2 : List UInt8 := dkwX7_step_2 ++ dktX7_step_3
def dkwX7_step_1 : List UInt8 := [167, 0, 4, 3, 54, 5, 42, 182, 0, 127, 156, 0, 13, 21, 5, 154, 0, 8, 42, 182, 0, 68, 191, 42]
abbrev dktX7_step_1 : List UInt8 := dkwX7_step_1 ++ dktX7_step_2
def dkwX7_step_0 : List UInt8 := [42, 18, 121, 182, 0, 72, 54, 4, 21, 4, 154, 0, 12, 42, 18, 123, 182, 0, 72, 153, 0, 7, 4]
abbrev dktX7_step_0 : List UInt8 := dkwX7_step_0 ++ dktX7_step_1
theorem dksX7_step_0 : cX7_step.data.toList.drop 0 = dktX7_step_0 := by decide +kernel
theorem dksX7_step_1 : cX7_step.data.toList.drop 23 = dktX7_step_1 := dk_seg dksX7_step_0 23 rfl rfl
theorem dksX7_step_2 : cX7_step.data.toList.drop 47 = dktX7_step_2 := dk_seg dksX7_step_1 24 rfl rfl
theorem dksX7_step_3 : cX7_step.data.toList.drop 71 = dktX7_step_3 := dk_seg dksX7_step_2 24 rfl rfl
theorem dksX7_step_4 : cX7_step.data.toList.drop 95 = dktX7_step_4 := dk_seg dksX7_step_3 24 rfl rfl
theorem dksX7_step_5 : cX7_step.data.toList.drop 119 = dktX7_step_5 := dk_seg dksX7_step_4 24 rfl rfl
theorem dX7_step_0 : decode cX7_step 0 = .ok (.aload_n 0, 1) := dk_42 (dk_at dksX7_step_0 0 rfl rfl)
theorem dX7_step_1 : decode cX7_step 1 = .ok (.ldc 121, 2) := dk_18 121 (dk_at dksX7_step_0 1 rfl rfl)
theorem dX7_step_3 : decode cX7_step 3 = .ok (.invokevirtual 72, 3) := dk_182 0 72 (dk_at dksX7_step_0 3 rfl rfl)
theorem dX7_step_6 : decode cX7_step 6 = .ok (.istore 4, 2) := dk_54 4 (dk_at dksX7_step_0 6 rfl rfl)
theorem dX7_step_8 : decode cX7_step 8 = .ok (.iload 4, 2) := dk_21 4 (dk_at dksX7_step_0 8 rfl rfl)
theorem dX7_step_10 : decode cX7_step 10 = .ok (.ifCond .ne 12, 3) := dk_154 0 12 (dk_at dksX7_step_0 10 rfl rfl)
theorem dX7_step_13 : decode cX7_step 13 = .ok (.aload_n 0, 1) := dk_42 (dk_at dksX7_step_0 13 rfl rfl)
theorem dX7_step_14 : decode cX7_step 14 = .ok (.ldc 123, 2) := dk_18 123 (dk_at dksX7_step_0 14 rfl rfl)
theorem dX7_step_16 : decode cX7_step 16 = .ok (.invokevirtual 72, 3) := dk_182 0 72 (dk_at dksX7_step_0 16 rfl rfl)
theorem dX7_step_19 : decode cX7_step 19 = .ok (.ifCond .eq 7, 3) := dk_153 0 7 (dk_at dksX7_step_0 19 rfl rfl)
theorem dX7_step_22 : decode cX7_step 22 = .ok (.iconst 1, 1) := dk_4 (dk_at dksX7_step_0 22 rfl rfl)
theorem dX7_step_23 : decode cX7_step 23 = .ok (.goto 4, 3) := dk_167 0 4 (dk_at dksX7_step_1 0 rfl rfl)
theorem dX7_step_26 : decode cX7_step 26 = .ok (.iconst 0, 1) := dk_3 (dk_at dksX7_step_1 3 rfl rfl)
theorem dX7_step_27 : decode cX7_step 27 = .ok (.istore 5, 2) := dk_54 5 (dk_at dksX7_step_1 4 rfl rfl)
theorem dX7_step_29 : decode cX7_step 29 = .ok (.aload_n 0, 1) := dk_42 (dk_at dksX7_step_1 6 rfl rfl)
theorem dX7_step_30 : decode cX7_step 30 = .ok (.invokevirtual 127, 3) := dk_182 0 127 (dk_at dksX7_step_1 7 rfl rfl)
theorem dX7_step_33 : decode cX7_step 33 = .ok (.ifCond .ge 13, 3) := dk_156 0 13 (dk_at dksX7_step_1 10 rfl rfl)
theorem dX7_step_36 : decode cX7_step 36 = .ok (.iload 5, 2) := dk_21 5 (dk_at dksX7_step_1 13 rfl rfl)
theorem dX7_step_38 : decode cX7_step 38 = .ok (.ifCond .ne 8, 3) := dk_154 0 8 (dk_at dksX7_step_1 15 rfl rfl)
theorem dX7_step_41 : decode cX7_step 41 = .ok (.aload_n 0, 1) := dk_42 (dk_at dksX7_step_1 18 rfl rfl)
theorem dX7_step_42 : decode cX7_step 42 = .ok (.invokevirtual 68, 3) := dk_182 0 68 (dk_at dksX7_step_1 19 rfl rfl)
theorem dX7_step_45 : decode cX7_step 45 = .ok (.athrow, 1) := dk_191 (dk_at dksX7_step_1 22 rfl rfl)
theorem dX7_step_46 : decode cX7_step 46 = .ok (.aload_n 0, 1) := dk_42 (dk_at dksX7_step_1 23 rfl rfl)
theorem dX7_step_47 : decode cX7_step 47 = .ok (.getfield 234, 3) := dk_180 0 234 (dk_at dksX7_step_2 0 rfl rfl)
theorem dX7_step_50 : decode cX7_step 50 = .ok (.bipush 30, 2) := dk_16 30 (dk_at dksX7_step_2 3 rfl rfl)
theorem dX7_step_52 : decode cX7_step 52 = .ok (.if_icmp .ne 20, 3) := dk_160 0 20 (dk_at dksX7_step_2 5 rfl rfl)
theorem dX7_step_55 : decode cX7_step 55 = .ok (.aload_n 0, 1) := dk_42 (dk_at dksX7_step_2 8 rfl rfl)
theorem dX7_step_56 : decode cX7_step 56 = .ok (.getfield 3, 3) := dk_180 0 3 (dk_at dksX7_step_2 9 rfl rfl)
theorem dX7_step_59 : decode cX7_step 59 = .ok (.getfield 55, 3) := dk_180 0 55 (dk_at dksX7_step_2 12 rfl rfl)
theorem dX7_step_62 : decode cX7_step 62 = .ok (.bipush 6, 2) := dk_16 6 (dk_at dksX7_step_2 15 rfl rfl)
theorem dX7_step_64 : decode cX7_step 64 = .ok (.aload_n 0, 1) := dk_42 (dk_at dksX7_step_2 17 rfl rfl)
theorem dX7_step_65 : decode cX7_step 65 = .ok (.getfield 29, 3) := dk_180 0 29 (dk_at dksX7_step_2 18 rfl rfl)
theorem dX7_step_68 : decode cX7_step 68 = .ok (.invokevirtual 59, 3) := dk_182 0 59 (dk_at dksX7_step_2 21 rfl rfl)
theorem dX7_step_71 : decode cX7_step 71 = .ok (.athrow, 1) := dk_191 (dk_at dksX7_step_3 0 rfl rfl)
theorem dX7_step_72 : decode cX7_step 72 = .ok (.iload 5, 2) := dk_21 5 (dk_at dksX7_step_3 1 rfl rfl)
theorem dX7_step_74 : decode cX7_step 74 = .ok (.ifCond .eq 25, 3) := dk_153 0 25 (dk_at dksX7_step_3 3 rfl rfl)
theorem dX7_step_77 : decode cX7_step 77 = .ok (.iload_n 3, 1) := dk_29 (dk_at dksX7_step_3 6 rfl rfl)
theorem dX7_step_78 : decode cX7_step 78 = .ok (.iconst 3, 1) := dk_6 (dk_at dksX7_step_3 7 rfl rfl)
theorem dX7_step_79 : decode cX7_step 79 = .ok (.if_icmp .ne 20, 3) := dk_160 0 20 (dk_at dksX7_step_3 8 rfl rfl)
theorem dX7_step_82 : decode cX7_step 82 = .ok (.aload_n 0, 1) := dk_42 (dk_at dksX7_step_3 11 rfl rfl)
theorem dX7_step_83 : decode cX7_step 83 = .ok (.getfield 3, 3) := dk_180 0 3 (dk_at dksX7_step_3 12 rfl rfl)
theorem dX7_step_86 : decode cX7_step 86 = .ok (.getfield 55, 3) := dk_180 0 55 (dk_at dksX7_step_3 15 rfl rfl)
theorem dX7_step_89 : decode cX7_step 89 = .ok (.bipush 7, 2) := dk_16 7 (dk_at dksX7_step_3 18 rfl rfl)
theorem dX7_step_91 : decode cX7_step 91 = .ok (.aload_n 0, 1) := dk_42 (dk_at dksX7_step_3 20 rfl rfl)
theorem dX7_step_92 : decode cX7_step 92 = .ok (.getfield 29, 3) := dk_180 0 29 (dk_at dksX7_step_3 21 rfl rfl)
theorem dX7_step_95 : decode cX7_step 95 = .ok (.invokevirtual 59, 3) := dk_182 0 59 (dk_at dksX7_step_4 0 rfl rfl)
theorem dX7_step_98 : decode cX7_step 98 = .ok (.athrow, 1) := dk_191 (dk_at dksX7_step_4 3 rfl rfl)
theorem dX7_step_99 : decode cX7_step 99 = .ok (.aload_n 0, 1) := dk_42 (dk_at dksX7_step_4 4 rfl rfl)
theorem dX7_step_100 : decode cX7_step 100 = .ok (.dup, 1) := dk_89 (dk_at dksX7_step_4 5 rfl rfl)
theorem dX7_step_101 : decode cX7_step 101 = .ok (.getfield 234, 3) := dk_180 0 234 (dk_at dksX7_step_4 6 rfl rfl)
theorem dX7_step_104 : decode cX7_step 104 = .ok (.iconst 1, 1) := dk_4 (dk_at dksX7_step_4 9 rfl rfl)
theorem dX7_step_105 : decode cX7_step 105 = .ok (.iadd, 1) := dk_96 (dk_at dksX7_step_4 10 rfl rfl)
theorem dX7_step_106 : decode cX7_step 106 = .ok (.putfield 234, 3) := dk_181 0 234 (dk_at dksX7_step_4 11 rfl rfl)
theorem dX7_step_109 : decode cX7_step 109 = .ok (.iload 5, 2) := dk_21 5 (dk_at dksX7_step_4 14 rfl rfl)
theorem dX7_step_111 : decode cX7_step 111 = .ok (.ifCond .eq 14, 3) := dk_153 0 14 (dk_at dksX7_step_4 16 rfl rfl)
theorem dX7_step_114 : decode cX7_step 114 = .ok (.aload_n 0, 1) := dk_42 (dk_at dksX7_step_4 19 rfl rfl)
theorem dX7_step_115 : decode cX7_step 115 = .ok (.aload_n 1, 1) := dk_43 (dk_at dksX7_step_4 20 rfl rfl)
theorem dX7_step_116 : decode cX7_step 116 = .ok (.iload 4, 2) := dk_21 4 (dk_at dksX7_step_4 21 rfl rfl)
theorem dX7_step_118 : decode cX7_step 118 = .ok (.iload_n 3, 1) := dk_29 (dk_at dksX7_step_4 23 rfl rfl)
theorem dX7_step_119 : decode cX7_step 119 = .ok (.invokevirtual 237, 3) := dk_182 0 237 (dk_at dksX7_step_5 0 rfl rfl)
theorem dX7_step_122 : decode cX7_step 122 = .ok (.goto 8, 3) := dk_167 0 8 (dk_at dksX7_step_5 3 rfl rfl)
theorem dX7_step_125 : decode cX7_step 125 = .ok (.aload_n 0, 1) := dk_42 (dk_at dksX7_step_5 6 rfl rfl)
theorem dX7_step_126 : decode cX7_step 126 = .ok (.aload_n 1, 1) := dk_43 (dk_at dksX7_step_5 7 rfl rfl)
theorem dX7_step_127 : decode cX7_step 127 = .ok (.invokevirtual 241, 3) := dk_182 0 241 (dk_at dksX7_step_5 8 rfl rfl)
theorem dX7_step_130 : decode cX7_step 130 = .ok (.astore 6, 2) := dk_58 6 (dk_at dksX7_step_5 11 rfl rfl)
theorem dX7_step_132 : decode cX7_step 132 = .ok (.aload_n 0, 1) := dk_42 (dk_at dksX7_step_5 13 rfl rfl)
theorem dX7_step_133 : decode cX7_step 133 = .ok (.invokevirtual 180, 3) := dk_182 0 180 (dk_at dksX7_step_5 14 rfl rfl)
theorem dX7_step_136 : decode cX7_step 136 = .ok (.aload_n 2, 1) := dk_44 (dk_at dksX7_step_5 17 rfl rfl)
theorem dX7_step_137 : decode cX7_step 137 = .ok (.aload 6, 2) := dk_25 6 (dk_at dksX7_step_5 18 rfl rfl)
theorem dX7_step_139 : decode cX7_step 139 = .ok (.invokevirtual 245, 3) := dk_182 0 245 (dk_at dksX7_step_5 20 rfl rfl)
theorem dX7_step_142 : decode cX7_step 142 = .ok (.return_, 1) := dk_177 (dk_at dksX7_step_5 23 rfl rfl)
abbrev cX7_block : ByteArray := prog_9_method_29_code
def yX7_block : MethodName := ⟨RX7, "block", "(LIslandCall$Boat;ZI)LIslandCall$Block;"⟩
def dkwX7_block_2 : List UInt8 := [25, 4, 29, 4, 96, 182, 0, 230, 167, 255, 237, 42, 182, 0, 19, 25, 4, 176]
abbrev dktX7_block_2 : List UInt8 := dkwX7_block_2 ++ []
def dkwX7_block_1 : List UInt8 := [182, 0, 80, 183, 1, 8, 58, 4, 42, 182, 0, 180, 42, 18, 125, 182, 0, 72, 154, 0, 16, 42, 43]
abbrev dktX7_block_1 : List UInt8 := dkwX7_block_1 ++ dktX7_block_2
def dkwX7_block_0 : List UInt8 := [42, 182, 0, 19, 28, 153, 0, 11, 42, 43, 182, 1, 3, 167, 0, 17, 187, 1, 6, 89, 42, 4, 16, 99]
abbrev dktX7_block_0 : List UInt8 := dkwX7_block_0 ++ dktX7_block_1
theorem dksX7_block_0 : cX7_block.data.toList.drop 0 = dktX7_block_0 := by decide +kernel
theorem dksX7_block_1 : cX7_block.data.toList.drop 24 = dktX7_block_1 := dk_seg dksX7_block_0 24 rfl rfl
theorem dksX7_block_2 : cX7_block.data.toList.drop 47 = dktX7_block_2 := dk_seg dksX7_block_1 23 rfl rfl
theorem dX7_block_0 : decode cX7_block 0 = .ok (.aload_n 0, 1) := dk_42 (dk_at dksX7_block_0 0 rfl rfl)
theorem dX7_block_1 : decode cX7_block 1 = .ok (.invokevirtual 19, 3) := dk_182 0 19 (dk_at dksX7_block_0 1 rfl rfl)
theorem dX7_block_4 : decode cX7_block 4 = .ok (.iload_n 2, 1) := dk_28 (dk_at dksX7_block_0 4 rfl rfl)
theorem dX7_block_5 : decode cX7_block 5 = .ok (.ifCond .eq 11, 3) := dk_153 0 11 (dk_at dksX7_block_0 5 rfl rfl)
theorem dX7_block_8 : decode cX7_block 8 = .ok (.aload_n 0, 1) := dk_42 (dk_at dksX7_block_0 8 rfl rfl)
theorem dX7_block_9 : decode cX7_block 9 = .ok (.aload_n 1, 1) := dk_43 (dk_at dksX7_block_0 9 rfl rfl)
theorem dX7_block_10 : decode cX7_block 10 = .ok (.invokevirtual 259, 3) := dk_182 1 3 (dk_at dksX7_block_0 10 rfl rfl)
theorem dX7_block_13 : decode cX7_block 13 = .ok (.goto 17, 3) := dk_167 0 17 (dk_at dksX7_block_0 13 rfl rfl)
theorem dX7_block_16 : decode cX7_block 16 = .ok (.new 262, 3) := dk_187 1 6 (dk_at dksX7_block_0 16 rfl rfl)
theorem dX7_block_19 : decode cX7_block 19 = .ok (.dup, 1) := dk_89 (dk_at dksX7_block_0 19 rfl rfl)
theorem dX7_block_20 : decode cX7_block 20 = .ok (.aload_n 0, 1) := dk_42 (dk_at dksX7_block_0 20 rfl rfl)
theorem dX7_block_21 : decode cX7_block 21 = .ok (.iconst 1, 1) := dk_4 (dk_at dksX7_block_0 21 rfl rfl)
theorem dX7_block_22 : decode cX7_block 22 = .ok (.bipush 99, 2) := dk_16 99 (dk_at dksX7_block_0 22 rfl rfl)
theorem dX7_block_24 : decode cX7_block 24 = .ok (.invokevirtual 80, 3) := dk_182 0 80 (dk_at dksX7_block_1 0 rfl rfl)
theorem dX7_block_27 : decode cX7_block 27 = .ok (.invokespecial 264, 3) := dk_183 1 8 (dk_at dksX7_block_1 3 rfl rfl)
theorem dX7_block_30 : decode cX7_block 30 = .ok (.astore 4, 2) := dk_58 4 (dk_at dksX7_block_1 6 rfl rfl)
theorem dX7_block_32 : decode cX7_block 32 = .ok (.aload_n 0, 1) := dk_42 (dk_at dksX7_block_1 8 rfl rfl)
theorem dX7_block_33 : decode cX7_block 33 = .ok (.invokevirtual 180, 3) := dk_182 0 180 (dk_at dksX7_block_1 9 rfl rfl)
theorem dX7_block_36 : decode cX7_block 36 = .ok (.aload_n 0, 1) := dk_42 (dk_at dksX7_block_1 12 rfl rfl)
theorem dX7_block_37 : decode cX7_block 37 = .ok (.ldc 125, 2) := dk_18 125 (dk_at dksX7_block_1 13 rfl rfl)
theorem dX7_block_39 : decode cX7_block 39 = .ok (.invokevirtual 72, 3) := dk_182 0 72 (dk_at dksX7_block_1 15 rfl rfl)
theorem dX7_block_42 : decode cX7_block 42 = .ok (.ifCond .ne 16, 3) := dk_154 0 16 (dk_at dksX7_block_1 18 rfl rfl)
theorem dX7_block_45 : decode cX7_block 45 = .ok (.aload_n 0, 1) := dk_42 (dk_at dksX7_block_1 21 rfl rfl)
theorem dX7_block_46 : decode cX7_block 46 = .ok (.aload_n 1, 1) := dk_43 (dk_at dksX7_block_1 22 rfl rfl)
theorem dX7_block_47 : decode cX7_block 47 = .ok (.aload 4, 2) := dk_25 4 (dk_at dksX7_block_2 0 rfl rfl)
theorem dX7_block_49 : decode cX7_block 49 = .ok (.iload_n 3, 1) := dk_29 (dk_at dksX7_block_2 2 rfl rfl)
theorem dX7_block_50 : decode cX7_block 50 = .ok (.iconst 1, 1) := dk_4 (dk_at dksX7_block_2 3 rfl rfl)
theorem dX7_block_51 : decode cX7_block 51 = .ok (.iadd, 1) := dk_96 (dk_at dksX7_block_2 4 rfl rfl)
theorem dX7_block_52 : decode cX7_block 52 = .ok (.invokevirtual 230, 3) := dk_182 0 230 (dk_at dksX7_block_2 5 rfl rfl)
theorem dX7_block_55 : decode cX7_block 55 = .ok (.goto (-19), 3) := dk_167 255 237 (dk_at dksX7_block_2 8 rfl rfl)
theorem dX7_block_58 : decode cX7_block 58 = .ok (.aload_n 0, 1) := dk_42 (dk_at dksX7_block_2 11 rfl rfl)
theorem dX7_block_59 : decode cX7_block 59 = .ok (.invokevirtual 19, 3) := dk_182 0 19 (dk_at dksX7_block_2 12 rfl rfl)
theorem dX7_block_62 : decode cX7_block 62 = .ok (.aload 4, 2) := dk_25 4 (dk_at dksX7_block_2 15 rfl rfl)
theorem dX7_block_64 : decode cX7_block 64 = .ok (.areturn, 1) := dk_176 (dk_at dksX7_block_2 17 rfl rfl)
abbrev cX7_when : ByteArray := prog_9_method_30_code
def yX7_when : MethodName := ⟨RX7, "when", "(LIslandCall$Boat;)LIslandCall$When;"⟩
def dkwX7_when_5 : List UInt8 := [182, 0, 80, 183, 1, 12, 176]
abbrev dktX7_when_5 : List UInt8 := dkwX7_when_5 ++ []
def dkwX7_when_4 : List UInt8 := [154, 0, 8, 42, 182, 0, 68, 191, 42, 182, 0, 19, 187, 1, 10, 89, 28, 29, 21, 4, 42, 3, 16, 9]
abbrev dktX7_when_4 : List UInt8 := dkwX7_when_4 ++ dktX7_when_5
def dkwX7_when_3 : List UInt8 := [182, 0, 64, 153, 0, 8, 16, 62, 167, 0, 5, 16, 61, 54, 4, 42, 21, 4, 146, 182, 0, 64]
abbrev dktX7_when_3 : List UInt8 := dkwX7_when_3 ++ dktX7_when_4
def dkwX7_when_2 : List UInt8 := [3, 3, 183, 1, 12, 176, 42, 16, 60, 182, 0, 64, 153, 0, 8, 16, 60, 167, 0, 19, 42, 16, 62]
abbrev dktX7_when_2 : List UInt8 := dkwX7_when_2 ++ dktX7_when_3
def dkwX7_when_1 : List UInt8 := [43, 182, 1, 0, 167, 0, 8, 42, 43, 182, 0, 225, 62, 28, 5, 159, 0, 15, 187, 1, 10, 89, 28, 29]
abbrev dktX7_when_1 : List UInt8 := dkwX7_when_1 ++ dktX7_when_2
def dkwX7_when_0 : List UInt8 := [42, 182, 0, 130, 61, 28, 156, 0, 8, 42, 182, 0, 68, 191, 42, 182, 0, 19, 28, 4, 160, 0, 11, 42]
abbrev dktX7_when_0 : List UInt8 := dkwX7_when_0 ++ dktX7_when_1
theorem dksX7_when_0 : cX7_when.data.toList.drop 0 = dktX7_when_0 := by decide +kernel
theorem dksX7_when_1 : cX7_when.data.toList.drop 24 = dktX7_when_1 := dk_seg dksX7_when_0 24 rfl rfl
theorem dksX7_when_2 : cX7_when.data.toList.drop 48 = dktX7_when_2 := dk_seg dksX7_when_1 24 rfl rfl
theorem dksX7_when_3 : cX7_when.data.toList.drop 71 = dktX7_when_3 := dk_seg dksX7_when_2 23 rfl rfl
theorem dksX7_when_4 : cX7_when.data.toList.drop 93 = dktX7_when_4 := dk_seg dksX7_when_3 22 rfl rfl
theorem dksX7_when_5 : cX7_when.data.toList.drop 117 = dktX7_when_5 := dk_seg dksX7_when_4 24 rfl rfl
theorem dX7_when_0 : decode cX7_when 0 = .ok (.aload_n 0, 1) := dk_42 (dk_at dksX7_when_0 0 rfl rfl)
theorem dX7_when_1 : decode cX7_when 1 = .ok (.invokevirtual 130, 3) := dk_182 0 130 (dk_at dksX7_when_0 1 rfl rfl)
theorem dX7_when_4 : decode cX7_when 4 = .ok (.istore_n 2, 1) := dk_61 (dk_at dksX7_when_0 4 rfl rfl)
theorem dX7_when_5 : decode cX7_when 5 = .ok (.iload_n 2, 1) := dk_28 (dk_at dksX7_when_0 5 rfl rfl)
theorem dX7_when_6 : decode cX7_when 6 = .ok (.ifCond .ge 8, 3) := dk_156 0 8 (dk_at dksX7_when_0 6 rfl rfl)
theorem dX7_when_9 : decode cX7_when 9 = .ok (.aload_n 0, 1) := dk_42 (dk_at dksX7_when_0 9 rfl rfl)
theorem dX7_when_10 : decode cX7_when 10 = .ok (.invokevirtual 68, 3) := dk_182 0 68 (dk_at dksX7_when_0 10 rfl rfl)
theorem dX7_when_13 : decode cX7_when 13 = .ok (.athrow, 1) := dk_191 (dk_at dksX7_when_0 13 rfl rfl)
theorem dX7_when_14 : decode cX7_when 14 = .ok (.aload_n 0, 1) := dk_42 (dk_at dksX7_when_0 14 rfl rfl)
theorem dX7_when_15 : decode cX7_when 15 = .ok (.invokevirtual 19, 3) := dk_182 0 19 (dk_at dksX7_when_0 15 rfl rfl)
theorem dX7_when_18 : decode cX7_when 18 = .ok (.iload_n 2, 1) := dk_28 (dk_at dksX7_when_0 18 rfl rfl)
theorem dX7_when_19 : decode cX7_when 19 = .ok (.iconst 1, 1) := dk_4 (dk_at dksX7_when_0 19 rfl rfl)
theorem dX7_when_20 : decode cX7_when 20 = .ok (.if_icmp .ne 11, 3) := dk_160 0 11 (dk_at dksX7_when_0 20 rfl rfl)
theorem dX7_when_23 : decode cX7_when 23 = .ok (.aload_n 0, 1) := dk_42 (dk_at dksX7_when_0 23 rfl rfl)
theorem dX7_when_24 : decode cX7_when 24 = .ok (.aload_n 1, 1) := dk_43 (dk_at dksX7_when_1 0 rfl rfl)
theorem dX7_when_25 : decode cX7_when 25 = .ok (.invokevirtual 256, 3) := dk_182 1 0 (dk_at dksX7_when_1 1 rfl rfl)
theorem dX7_when_28 : decode cX7_when 28 = .ok (.goto 8, 3) := dk_167 0 8 (dk_at dksX7_when_1 4 rfl rfl)
theorem dX7_when_31 : decode cX7_when 31 = .ok (.aload_n 0, 1) := dk_42 (dk_at dksX7_when_1 7 rfl rfl)
theorem dX7_when_32 : decode cX7_when 32 = .ok (.aload_n 1, 1) := dk_43 (dk_at dksX7_when_1 8 rfl rfl)
theorem dX7_when_33 : decode cX7_when 33 = .ok (.invokevirtual 225, 3) := dk_182 0 225 (dk_at dksX7_when_1 9 rfl rfl)
theorem dX7_when_36 : decode cX7_when 36 = .ok (.istore_n 3, 1) := dk_62 (dk_at dksX7_when_1 12 rfl rfl)
theorem dX7_when_37 : decode cX7_when 37 = .ok (.iload_n 2, 1) := dk_28 (dk_at dksX7_when_1 13 rfl rfl)
theorem dX7_when_38 : decode cX7_when 38 = .ok (.iconst 2, 1) := dk_5 (dk_at dksX7_when_1 14 rfl rfl)
theorem dX7_when_39 : decode cX7_when 39 = .ok (.if_icmp .eq 15, 3) := dk_159 0 15 (dk_at dksX7_when_1 15 rfl rfl)
theorem dX7_when_42 : decode cX7_when 42 = .ok (.new 266, 3) := dk_187 1 10 (dk_at dksX7_when_1 18 rfl rfl)
theorem dX7_when_45 : decode cX7_when 45 = .ok (.dup, 1) := dk_89 (dk_at dksX7_when_1 21 rfl rfl)
theorem dX7_when_46 : decode cX7_when 46 = .ok (.iload_n 2, 1) := dk_28 (dk_at dksX7_when_1 22 rfl rfl)
theorem dX7_when_47 : decode cX7_when 47 = .ok (.iload_n 3, 1) := dk_29 (dk_at dksX7_when_1 23 rfl rfl)
theorem dX7_when_48 : decode cX7_when 48 = .ok (.iconst 0, 1) := dk_3 (dk_at dksX7_when_2 0 rfl rfl)
theorem dX7_when_49 : decode cX7_when 49 = .ok (.iconst 0, 1) := dk_3 (dk_at dksX7_when_2 1 rfl rfl)
theorem dX7_when_50 : decode cX7_when 50 = .ok (.invokespecial 268, 3) := dk_183 1 12 (dk_at dksX7_when_2 2 rfl rfl)
theorem dX7_when_53 : decode cX7_when 53 = .ok (.areturn, 1) := dk_176 (dk_at dksX7_when_2 5 rfl rfl)
theorem dX7_when_54 : decode cX7_when 54 = .ok (.aload_n 0, 1) := dk_42 (dk_at dksX7_when_2 6 rfl rfl)
theorem dX7_when_55 : decode cX7_when 55 = .ok (.bipush 60, 2) := dk_16 60 (dk_at dksX7_when_2 7 rfl rfl)
theorem dX7_when_57 : decode cX7_when 57 = .ok (.invokevirtual 64, 3) := dk_182 0 64 (dk_at dksX7_when_2 9 rfl rfl)
theorem dX7_when_60 : decode cX7_when 60 = .ok (.ifCond .eq 8, 3) := dk_153 0 8 (dk_at dksX7_when_2 12 rfl rfl)
theorem dX7_when_63 : decode cX7_when 63 = .ok (.bipush 60, 2) := dk_16 60 (dk_at dksX7_when_2 15 rfl rfl)
theorem dX7_when_65 : decode cX7_when 65 = .ok (.goto 19, 3) := dk_167 0 19 (dk_at dksX7_when_2 17 rfl rfl)
theorem dX7_when_68 : decode cX7_when 68 = .ok (.aload_n 0, 1) := dk_42 (dk_at dksX7_when_2 20 rfl rfl)
theorem dX7_when_69 : decode cX7_when 69 = .ok (.bipush 62, 2) := dk_16 62 (dk_at dksX7_when_2 21 rfl rfl)
theorem dX7_when_71 : decode cX7_when 71 = .ok (.invokevirtual 64, 3) := dk_182 0 64 (dk_at dksX7_when_3 0 rfl rfl)
theorem dX7_when_74 : decode cX7_when 74 = .ok (.ifCond .eq 8, 3) := dk_153 0 8 (dk_at dksX7_when_3 3 rfl rfl)
theorem dX7_when_77 : decode cX7_when 77 = .ok (.bipush 62, 2) := dk_16 62 (dk_at dksX7_when_3 6 rfl rfl)
theorem dX7_when_79 : decode cX7_when 79 = .ok (.goto 5, 3) := dk_167 0 5 (dk_at dksX7_when_3 8 rfl rfl)
theorem dX7_when_82 : decode cX7_when 82 = .ok (.bipush 61, 2) := dk_16 61 (dk_at dksX7_when_3 11 rfl rfl)
theorem dX7_when_84 : decode cX7_when 84 = .ok (.istore 4, 2) := dk_54 4 (dk_at dksX7_when_3 13 rfl rfl)
theorem dX7_when_86 : decode cX7_when 86 = .ok (.aload_n 0, 1) := dk_42 (dk_at dksX7_when_3 15 rfl rfl)
theorem dX7_when_87 : decode cX7_when 87 = .ok (.iload 4, 2) := dk_21 4 (dk_at dksX7_when_3 16 rfl rfl)
theorem dX7_when_89 : decode cX7_when 89 = .ok (.i2c, 1) := dk_146 (dk_at dksX7_when_3 18 rfl rfl)
theorem dX7_when_90 : decode cX7_when 90 = .ok (.invokevirtual 64, 3) := dk_182 0 64 (dk_at dksX7_when_3 19 rfl rfl)
theorem dX7_when_93 : decode cX7_when 93 = .ok (.ifCond .ne 8, 3) := dk_154 0 8 (dk_at dksX7_when_4 0 rfl rfl)
theorem dX7_when_96 : decode cX7_when 96 = .ok (.aload_n 0, 1) := dk_42 (dk_at dksX7_when_4 3 rfl rfl)
theorem dX7_when_97 : decode cX7_when 97 = .ok (.invokevirtual 68, 3) := dk_182 0 68 (dk_at dksX7_when_4 4 rfl rfl)
theorem dX7_when_100 : decode cX7_when 100 = .ok (.athrow, 1) := dk_191 (dk_at dksX7_when_4 7 rfl rfl)
theorem dX7_when_101 : decode cX7_when 101 = .ok (.aload_n 0, 1) := dk_42 (dk_at dksX7_when_4 8 rfl rfl)
theorem dX7_when_102 : decode cX7_when 102 = .ok (.invokevirtual 19, 3) := dk_182 0 19 (dk_at dksX7_when_4 9 rfl rfl)
theorem dX7_when_105 : decode cX7_when 105 = .ok (.new 266, 3) := dk_187 1 10 (dk_at dksX7_when_4 12 rfl rfl)
theorem dX7_when_108 : decode cX7_when 108 = .ok (.dup, 1) := dk_89 (dk_at dksX7_when_4 15 rfl rfl)
theorem dX7_when_109 : decode cX7_when 109 = .ok (.iload_n 2, 1) := dk_28 (dk_at dksX7_when_4 16 rfl rfl)
theorem dX7_when_110 : decode cX7_when 110 = .ok (.iload_n 3, 1) := dk_29 (dk_at dksX7_when_4 17 rfl rfl)
theorem dX7_when_111 : decode cX7_when 111 = .ok (.iload 4, 2) := dk_21 4 (dk_at dksX7_when_4 18 rfl rfl)
theorem dX7_when_113 : decode cX7_when 113 = .ok (.aload_n 0, 1) := dk_42 (dk_at dksX7_when_4 20 rfl rfl)
theorem dX7_when_114 : decode cX7_when 114 = .ok (.iconst 0, 1) := dk_3 (dk_at dksX7_when_4 21 rfl rfl)
theorem dX7_when_115 : decode cX7_when 115 = .ok (.bipush 9, 2) := dk_16 9 (dk_at dksX7_when_4 22 rfl rfl)
theorem dX7_when_117 : decode cX7_when 117 = .ok (.invokevirtual 80, 3) := dk_182 0 80 (dk_at dksX7_when_5 0 rfl rfl)
theorem dX7_when_120 : decode cX7_when 120 = .ok (.invokespecial 268, 3) := dk_183 1 12 (dk_at dksX7_when_5 3 rfl rfl)
theorem dX7_when_123 : decode cX7_when 123 = .ok (.areturn, 1) := dk_176 (dk_at dksX7_when_5 6 rfl rfl)
abbrev cX7_omen : ByteArray := prog_9_method_19_code
def yX7_omen : MethodName := ⟨RX7, "omen", "(LIslandCall$Boat;)I"⟩
def dkwX7_omen_0 : List UInt8 := [42, 43, 42, 182, 0, 141, 182, 0, 145, 3, 182, 0, 158, 172]
abbrev dktX7_omen_0 : List UInt8 := dkwX7_omen_0 ++ []
theorem dksX7_omen_0 : cX7_omen.data.toList.drop 0 = dktX7_omen_0 := by decide +kernel
theorem dX7_omen_0 : decode cX7_omen 0 = .ok (.aload_n 0, 1) := dk_42 (dk_at dksX7_omen_0 0 rfl rfl)
theorem dX7_omen_1 : decode cX7_omen 1 = .ok (.aload_n 1, 1) := dk_43 (dk_at dksX7_omen_0 1 rfl rfl)
theorem dX7_omen_2 : decode cX7_omen 2 = .ok (.aload_n 0, 1) := dk_42 (dk_at dksX7_omen_0 2 rfl rfl)
theorem dX7_omen_3 : decode cX7_omen 3 = .ok (.invokevirtual 141, 3) := dk_182 0 141 (dk_at dksX7_omen_0 3 rfl rfl)
theorem dX7_omen_6 : decode cX7_omen 6 = .ok (.invokevirtual 145, 3) := dk_182 0 145 (dk_at dksX7_omen_0 6 rfl rfl)
theorem dX7_omen_9 : decode cX7_omen 9 = .ok (.iconst 0, 1) := dk_3 (dk_at dksX7_omen_0 9 rfl rfl)
theorem dX7_omen_10 : decode cX7_omen 10 = .ok (.invokevirtual 158, 3) := dk_182 0 158 (dk_at dksX7_omen_0 10 rfl rfl)
theorem dX7_omen_13 : decode cX7_omen 13 = .ok (.ireturn, 1) := dk_172 (dk_at dksX7_omen_0 13 rfl rfl)
abbrev cX7_plain : ByteArray := prog_9_method_28_code
def yX7_plain : MethodName := ⟨RX7, "plain", "(LIslandCall$Boat;)LIslandCall$Step;"⟩
def dkwX7_plain_3 : List UInt8 := [183, 0, 253, 176]
abbrev dktX7_plain_3 : List UInt8 := dkwX7_plain_3 ++ []
def dkwX7_plain_2 : List UInt8 := [187, 0, 251, 89, 28, 29, 28, 7, 160, 0, 13, 42, 3, 16, 9, 182, 0, 80, 167, 0, 4, 3]
abbrev dktX7_plain_2 : List UInt8 := dkwX7_plain_2 ++ dktX7_plain_3
def dkwX7_plain_1 : List UInt8 := [3, 183, 0, 253, 176, 28, 6, 162, 0, 11, 42, 43, 182, 1, 0, 167, 0, 8, 42, 43, 182, 0, 225, 62]
abbrev dktX7_plain_1 : List UInt8 := dkwX7_plain_1 ++ dktX7_plain_2
def dkwX7_plain_0 : List UInt8 := [42, 182, 0, 127, 61, 42, 182, 0, 19, 28, 153, 0, 8, 28, 7, 164, 0, 14, 187, 0, 251, 89, 28, 3]
abbrev dktX7_plain_0 : List UInt8 := dkwX7_plain_0 ++ dktX7_plain_1
theorem dksX7_plain_0 : cX7_plain.data.toList.drop 0 = dktX7_plain_0 := by decide +kernel
theorem dksX7_plain_1 : cX7_plain.data.toList.drop 24 = dktX7_plain_1 := dk_seg dksX7_plain_0 24 rfl rfl
theorem dksX7_plain_2 : cX7_plain.data.toList.drop 48 = dktX7_plain_2 := dk_seg dksX7_plain_1 24 rfl rfl
theorem dksX7_plain_3 : cX7_plain.data.toList.drop 70 = dktX7_plain_3 := dk_seg dksX7_plain_2 22 rfl rfl
theorem dX7_plain_0 : decode cX7_plain 0 = .ok (.aload_n 0, 1) := dk_42 (dk_at dksX7_plain_0 0 rfl rfl)
theorem dX7_plain_1 : decode cX7_plain 1 = .ok (.invokevirtual 127, 3) := dk_182 0 127 (dk_at dksX7_plain_0 1 rfl rfl)
theorem dX7_plain_4 : decode cX7_plain 4 = .ok (.istore_n 2, 1) := dk_61 (dk_at dksX7_plain_0 4 rfl rfl)
theorem dX7_plain_5 : decode cX7_plain 5 = .ok (.aload_n 0, 1) := dk_42 (dk_at dksX7_plain_0 5 rfl rfl)
theorem dX7_plain_6 : decode cX7_plain 6 = .ok (.invokevirtual 19, 3) := dk_182 0 19 (dk_at dksX7_plain_0 6 rfl rfl)
theorem dX7_plain_9 : decode cX7_plain 9 = .ok (.iload_n 2, 1) := dk_28 (dk_at dksX7_plain_0 9 rfl rfl)
theorem dX7_plain_10 : decode cX7_plain 10 = .ok (.ifCond .eq 8, 3) := dk_153 0 8 (dk_at dksX7_plain_0 10 rfl rfl)
theorem dX7_plain_13 : decode cX7_plain 13 = .ok (.iload_n 2, 1) := dk_28 (dk_at dksX7_plain_0 13 rfl rfl)
theorem dX7_plain_14 : decode cX7_plain 14 = .ok (.iconst 4, 1) := dk_7 (dk_at dksX7_plain_0 14 rfl rfl)
theorem dX7_plain_15 : decode cX7_plain 15 = .ok (.if_icmp .le 14, 3) := dk_164 0 14 (dk_at dksX7_plain_0 15 rfl rfl)
theorem dX7_plain_18 : decode cX7_plain 18 = .ok (.new 251, 3) := dk_187 0 251 (dk_at dksX7_plain_0 18 rfl rfl)
theorem dX7_plain_21 : decode cX7_plain 21 = .ok (.dup, 1) := dk_89 (dk_at dksX7_plain_0 21 rfl rfl)
theorem dX7_plain_22 : decode cX7_plain 22 = .ok (.iload_n 2, 1) := dk_28 (dk_at dksX7_plain_0 22 rfl rfl)
theorem dX7_plain_23 : decode cX7_plain 23 = .ok (.iconst 0, 1) := dk_3 (dk_at dksX7_plain_0 23 rfl rfl)
theorem dX7_plain_24 : decode cX7_plain 24 = .ok (.iconst 0, 1) := dk_3 (dk_at dksX7_plain_1 0 rfl rfl)
theorem dX7_plain_25 : decode cX7_plain 25 = .ok (.invokespecial 253, 3) := dk_183 0 253 (dk_at dksX7_plain_1 1 rfl rfl)
theorem dX7_plain_28 : decode cX7_plain 28 = .ok (.areturn, 1) := dk_176 (dk_at dksX7_plain_1 4 rfl rfl)
theorem dX7_plain_29 : decode cX7_plain 29 = .ok (.iload_n 2, 1) := dk_28 (dk_at dksX7_plain_1 5 rfl rfl)
theorem dX7_plain_30 : decode cX7_plain 30 = .ok (.iconst 3, 1) := dk_6 (dk_at dksX7_plain_1 6 rfl rfl)
theorem dX7_plain_31 : decode cX7_plain 31 = .ok (.if_icmp .ge 11, 3) := dk_162 0 11 (dk_at dksX7_plain_1 7 rfl rfl)
theorem dX7_plain_34 : decode cX7_plain 34 = .ok (.aload_n 0, 1) := dk_42 (dk_at dksX7_plain_1 10 rfl rfl)
theorem dX7_plain_35 : decode cX7_plain 35 = .ok (.aload_n 1, 1) := dk_43 (dk_at dksX7_plain_1 11 rfl rfl)
theorem dX7_plain_36 : decode cX7_plain 36 = .ok (.invokevirtual 256, 3) := dk_182 1 0 (dk_at dksX7_plain_1 12 rfl rfl)
theorem dX7_plain_39 : decode cX7_plain 39 = .ok (.goto 8, 3) := dk_167 0 8 (dk_at dksX7_plain_1 15 rfl rfl)
theorem dX7_plain_42 : decode cX7_plain 42 = .ok (.aload_n 0, 1) := dk_42 (dk_at dksX7_plain_1 18 rfl rfl)
theorem dX7_plain_43 : decode cX7_plain 43 = .ok (.aload_n 1, 1) := dk_43 (dk_at dksX7_plain_1 19 rfl rfl)
theorem dX7_plain_44 : decode cX7_plain 44 = .ok (.invokevirtual 225, 3) := dk_182 0 225 (dk_at dksX7_plain_1 20 rfl rfl)
theorem dX7_plain_47 : decode cX7_plain 47 = .ok (.istore_n 3, 1) := dk_62 (dk_at dksX7_plain_1 23 rfl rfl)
theorem dX7_plain_48 : decode cX7_plain 48 = .ok (.new 251, 3) := dk_187 0 251 (dk_at dksX7_plain_2 0 rfl rfl)
theorem dX7_plain_51 : decode cX7_plain 51 = .ok (.dup, 1) := dk_89 (dk_at dksX7_plain_2 3 rfl rfl)
theorem dX7_plain_52 : decode cX7_plain 52 = .ok (.iload_n 2, 1) := dk_28 (dk_at dksX7_plain_2 4 rfl rfl)
theorem dX7_plain_53 : decode cX7_plain 53 = .ok (.iload_n 3, 1) := dk_29 (dk_at dksX7_plain_2 5 rfl rfl)
theorem dX7_plain_54 : decode cX7_plain 54 = .ok (.iload_n 2, 1) := dk_28 (dk_at dksX7_plain_2 6 rfl rfl)
theorem dX7_plain_55 : decode cX7_plain 55 = .ok (.iconst 4, 1) := dk_7 (dk_at dksX7_plain_2 7 rfl rfl)
theorem dX7_plain_56 : decode cX7_plain 56 = .ok (.if_icmp .ne 13, 3) := dk_160 0 13 (dk_at dksX7_plain_2 8 rfl rfl)
theorem dX7_plain_59 : decode cX7_plain 59 = .ok (.aload_n 0, 1) := dk_42 (dk_at dksX7_plain_2 11 rfl rfl)
theorem dX7_plain_60 : decode cX7_plain 60 = .ok (.iconst 0, 1) := dk_3 (dk_at dksX7_plain_2 12 rfl rfl)
theorem dX7_plain_61 : decode cX7_plain 61 = .ok (.bipush 9, 2) := dk_16 9 (dk_at dksX7_plain_2 13 rfl rfl)
theorem dX7_plain_63 : decode cX7_plain 63 = .ok (.invokevirtual 80, 3) := dk_182 0 80 (dk_at dksX7_plain_2 15 rfl rfl)
theorem dX7_plain_66 : decode cX7_plain 66 = .ok (.goto 4, 3) := dk_167 0 4 (dk_at dksX7_plain_2 18 rfl rfl)
theorem dX7_plain_69 : decode cX7_plain 69 = .ok (.iconst 0, 1) := dk_3 (dk_at dksX7_plain_2 21 rfl rfl)
theorem dX7_plain_70 : decode cX7_plain 70 = .ok (.invokespecial 253, 3) := dk_183 0 253 (dk_at dksX7_plain_3 0 rfl rfl)
theorem dX7_plain_73 : decode cX7_plain 73 = .ok (.areturn, 1) := dk_176 (dk_at dksX7_plain_3 3 rfl rfl)
theorem q156 : (Jvm.Cond.initialized "IslandCall$Reader") ∈ lw_all := lw_g (lw_at lw_m1 16 rfl) rfl
theorem q291 : (Jvm.Cond.fieldLinkNest "IslandCall$Reader" (165 : Nat) "IslandCall$Boat" "plank" "I" "IslandCall") ∈ lw_tbl := lw_at lw_m1 151 rfl
theorem q294 : (Jvm.Cond.fieldLinkNest "IslandCall$Reader" (167 : Nat) "IslandCall$Boat" "habit" "I" "IslandCall") ∈ lw_tbl := lw_at lw_m1 154 rfl
theorem q298 : (Jvm.Cond.fieldLinkNest "IslandCall$Reader" (169 : Nat) "IslandCall$Boat" "odds" "I" "IslandCall") ∈ lw_tbl := lw_at lw_m1 158 rfl
theorem q302 : (Jvm.Cond.fieldLinkNest "IslandCall$Reader" (186 : Nat) "IslandCall$Boat" "omens" "I" "IslandCall") ∈ lw_tbl := lw_at lw_m1 162 rfl
theorem q305 : (Jvm.Cond.fieldLinkNest "IslandCall$Reader" (209 : Nat) "IslandCall$Boat" "people" "I" "IslandCall") ∈ lw_tbl := lw_at lw_m1 165 rfl
theorem q312 : (Jvm.Cond.fieldLinkNest "IslandCall$Reader" (219 : Nat) "IslandCall$Boat" "aboard" "I" "IslandCall") ∈ lw_tbl := lw_at lw_m1 172 rfl
theorem q317 : (Jvm.Cond.fieldLinkNest "IslandCall$Reader" (200 : Nat) "IslandCall$Boat" "shown" "I" "IslandCall") ∈ lw_tbl := lw_at lw_m1 177 rfl
theorem q320 : (Jvm.Cond.fieldLinkNest "IslandCall$Reader" (205 : Nat) "IslandCall$Boat" "omenNames" "[J" "IslandCall") ∈ lw_tbl := lw_at lw_m1 180 rfl
theorem q322 : (Jvm.Cond.fieldLinkNest "IslandCall$Reader" (222 : Nat) "IslandCall$Boat" "personNames" "[J" "IslandCall") ∈ lw_tbl := lw_at lw_m1 182 rfl
theorem q324 : (Jvm.Cond.fieldLinkNest "IslandCall$Reader" (193 : Nat) "IslandCall$Boat" "pull" "[I" "IslandCall") ∈ lw_tbl := lw_at lw_m1 184 rfl
theorem q331 : (Jvm.Cond.fieldLinkNest "IslandCall$Reader" (216 : Nat) "IslandCall$Boat" "excused" "[I" "IslandCall") ∈ lw_tbl := lw_at lw_m1 191 rfl
theorem q334 : (Jvm.Cond.fieldLinkNest "IslandCall$Reader" (228 : Nat) "IslandCall$Boat" "blind" "[I" "IslandCall") ∈ lw_tbl := lw_at lw_m1 194 rfl
theorem q388 : (Jvm.Cond.fieldLinkNest "IslandCall$Reader" (22 : Nat) "IslandCall" "tape" "[B" "IslandCall") ∈ lw_tbl := lw_at lw_m2 8 rfl
theorem q393 : (Jvm.Cond.fieldLinkNest "IslandCall$Reader" (55 : Nat) "IslandCall" "bad" "LIslandCall$Bad;" "IslandCall") ∈ lw_tbl := lw_at lw_m2 13 rfl
theorem q579 : (Jvm.Cond.instantiable "IslandCall$Reader" (8 : Nat)) ∈ lw_all := lw_g (lw_at lw_m2 199 rfl) rfl
theorem q581 : (Jvm.Cond.instanceMethod ({ cls := "IslandCall$Reader", name := "<init>", desc := "(LIslandCall;I)V" } : Jvm.MethodName)) ∈ lw_all := lw_g (lw_at lw_m2 201 rfl) rfl
theorem q582 : (Jvm.Cond.code ({ cls := "IslandCall$Reader", name := "<init>", desc := "(LIslandCall;I)V" } : Jvm.MethodName) prog_9_method_1_code (3 : Nat) (Option.none : Option Jvm.ClassFile.FieldType)) ∈ lw_all := lw_g (lw_at lw_m2 202 rfl) rfl
theorem q583 : (Jvm.Cond.methodLink "IslandCall$Reader" (9 : Nat) ({ cls := "java/lang/Object", name := "<init>", desc := "()V" } : Jvm.MethodName)) ∈ lw_all := lw_g (lw_at lw_m2 203 rfl) rfl
theorem q584 : (Jvm.Cond.methodLink "IslandCall$Reader" (19 : Nat) ({ cls := "IslandCall$Reader", name := "next", desc := "()V" } : Jvm.MethodName)) ∈ lw_all := lw_g (lw_at lw_m2 204 rfl) rfl
theorem q585 : (Jvm.Cond.privateMethod ({ cls := "IslandCall$Reader", name := "next", desc := "()V" } : Jvm.MethodName)) ∈ lw_tbl := lw_at lw_m2 205 rfl
theorem q586 : (Jvm.Cond.instanceMethod ({ cls := "IslandCall$Reader", name := "next", desc := "()V" } : Jvm.MethodName)) ∈ lw_all := lw_g (lw_at lw_m2 206 rfl) rfl
theorem q587 : (Jvm.Cond.code ({ cls := "IslandCall$Reader", name := "next", desc := "()V" } : Jvm.MethodName) prog_9_method_4_code (1 : Nat) (Option.none : Option Jvm.ClassFile.FieldType)) ∈ lw_all := lw_g (lw_at lw_m2 207 rfl) rfl
theorem q588 : (Jvm.Cond.methodLink "IslandCall$Reader" (35 : Nat) ({ cls := "IslandCall$Reader", name := "isLetter", desc := "(I)Z" } : Jvm.MethodName)) ∈ lw_all := lw_g (lw_at lw_m2 208 rfl) rfl
theorem q589 : (Jvm.Cond.privateMethod ({ cls := "IslandCall$Reader", name := "isLetter", desc := "(I)Z" } : Jvm.MethodName)) ∈ lw_tbl := lw_at lw_m2 209 rfl
theorem q590 : (Jvm.Cond.instanceMethod ({ cls := "IslandCall$Reader", name := "isLetter", desc := "(I)Z" } : Jvm.MethodName)) ∈ lw_all := lw_g (lw_at lw_m2 210 rfl) rfl
theorem q591 : (Jvm.Cond.code ({ cls := "IslandCall$Reader", name := "isLetter", desc := "(I)Z" } : Jvm.MethodName) prog_9_method_2_code (2 : Nat) (Option.some Jvm.ClassFile.FieldType.boolean)) ∈ lw_all := lw_g (lw_at lw_m2 211 rfl) rfl
theorem q592 : (Jvm.Cond.methodLink "IslandCall$Reader" (39 : Nat) ({ cls := "IslandCall$Reader", name := "isDigit", desc := "(I)Z" } : Jvm.MethodName)) ∈ lw_all := lw_g (lw_at lw_m2 212 rfl) rfl
theorem q593 : (Jvm.Cond.privateMethod ({ cls := "IslandCall$Reader", name := "isDigit", desc := "(I)Z" } : Jvm.MethodName)) ∈ lw_tbl := lw_at lw_m2 213 rfl
theorem q594 : (Jvm.Cond.instanceMethod ({ cls := "IslandCall$Reader", name := "isDigit", desc := "(I)Z" } : Jvm.MethodName)) ∈ lw_all := lw_g (lw_at lw_m2 214 rfl) rfl
theorem q595 : (Jvm.Cond.code ({ cls := "IslandCall$Reader", name := "isDigit", desc := "(I)Z" } : Jvm.MethodName) prog_9_method_3_code (2 : Nat) (Option.some Jvm.ClassFile.FieldType.boolean)) ∈ lw_all := lw_g (lw_at lw_m2 215 rfl) rfl
theorem q596 : (Jvm.Cond.fieldLink "IslandCall$Reader" (15 : Nat) "IslandCall$Reader" "size" "I") ∈ lw_all := lw_g (lw_at lw_m2 216 rfl) rfl
theorem q597 : (Jvm.Cond.fieldLink "IslandCall$Reader" (29 : Nat) "IslandCall$Reader" "at" "I") ∈ lw_all := lw_g (lw_at lw_m2 217 rfl) rfl
theorem q598 : (Jvm.Cond.fieldLink "IslandCall$Reader" (26 : Nat) "IslandCall$Reader" "behind" "I") ∈ lw_all := lw_g (lw_at lw_m2 218 rfl) rfl
theorem q599 : (Jvm.Cond.fieldLink "IslandCall$Reader" (32 : Nat) "IslandCall$Reader" "sort" "I") ∈ lw_all := lw_g (lw_at lw_m2 219 rfl) rfl
theorem q600 : (Jvm.Cond.fieldLink "IslandCall$Reader" (42 : Nat) "IslandCall$Reader" "number" "I") ∈ lw_all := lw_g (lw_at lw_m2 220 rfl) rfl
theorem q601 : (Jvm.Cond.fieldLink "IslandCall$Reader" (234 : Nat) "IslandCall$Reader" "steps" "I") ∈ lw_all := lw_g (lw_at lw_m2 221 rfl) rfl
theorem q603 : (Jvm.Cond.fieldLink "IslandCall$Reader" (183 : Nat) "IslandCall$Reader" "told" "I") ∈ lw_all := lw_g (lw_at lw_m2 223 rfl) rfl
theorem q604 : (Jvm.Cond.fieldLink "IslandCall$Reader" (3 : Nat) "IslandCall$Reader" "this$0" "LIslandCall;") ∈ lw_all := lw_g (lw_at lw_m2 224 rfl) rfl
theorem q605 : (Jvm.Cond.laysFinal "IslandCall$Reader" "IslandCall$Reader" "size" "I") ∈ lw_all := lw_g (lw_at lw_m2 225 rfl) rfl
theorem q606 : (Jvm.Cond.soleField "IslandCall$Reader" "size") ∈ lw_all := lw_g (lw_at lw_m2 226 rfl) rfl
theorem q607 : (Jvm.Cond.lays "IslandCall$Reader" "IslandCall$Reader" "at" "I") ∈ lw_all := lw_g (lw_at lw_m2 227 rfl) rfl
theorem q608 : (Jvm.Cond.soleField "IslandCall$Reader" "at") ∈ lw_all := lw_g (lw_at lw_m2 228 rfl) rfl
theorem q609 : (Jvm.Cond.lays "IslandCall$Reader" "IslandCall$Reader" "behind" "I") ∈ lw_all := lw_g (lw_at lw_m2 229 rfl) rfl
theorem q610 : (Jvm.Cond.soleField "IslandCall$Reader" "behind") ∈ lw_all := lw_g (lw_at lw_m2 230 rfl) rfl
theorem q611 : (Jvm.Cond.lays "IslandCall$Reader" "IslandCall$Reader" "sort" "I") ∈ lw_all := lw_g (lw_at lw_m2 231 rfl) rfl
theorem q612 : (Jvm.Cond.soleField "IslandCall$Reader" "sort") ∈ lw_all := lw_g (lw_at lw_m2 232 rfl) rfl
theorem q613 : (Jvm.Cond.lays "IslandCall$Reader" "IslandCall$Reader" "number" "I") ∈ lw_all := lw_g (lw_at lw_m2 233 rfl) rfl
theorem q614 : (Jvm.Cond.soleField "IslandCall$Reader" "number") ∈ lw_all := lw_g (lw_at lw_m2 234 rfl) rfl
theorem q615 : (Jvm.Cond.lays "IslandCall$Reader" "IslandCall$Reader" "steps" "I") ∈ lw_all := lw_g (lw_at lw_m2 235 rfl) rfl
theorem q616 : (Jvm.Cond.soleField "IslandCall$Reader" "steps") ∈ lw_all := lw_g (lw_at lw_m2 236 rfl) rfl
theorem q617 : (Jvm.Cond.lays "IslandCall$Reader" "IslandCall$Reader" "told" "I") ∈ lw_all := lw_g (lw_at lw_m2 237 rfl) rfl
theorem q618 : (Jvm.Cond.soleField "IslandCall$Reader" "told") ∈ lw_all := lw_g (lw_at lw_m2 238 rfl) rfl
theorem q619 : (Jvm.Cond.laysFinal "IslandCall$Reader" "IslandCall$Reader" "this$0" "LIslandCall;") ∈ lw_all := lw_g (lw_at lw_m2 239 rfl) rfl
theorem q620 : (Jvm.Cond.soleField "IslandCall$Reader" "this$0") ∈ lw_all := lw_g (lw_at lw_m3 0 rfl) rfl
theorem q621 : (Jvm.Cond.superclass "IslandCall$Reader" "java/lang/Object") ∈ lw_all := lw_g (lw_at lw_m3 1 rfl) rfl
theorem q623 : (Jvm.Cond.instanceMethod ({ cls := "IslandCall$Reader", name := "boat", desc := "(LIslandCall$Boat;)V" } : Jvm.MethodName)) ∈ lw_all := lw_g (lw_at lw_m3 3 rfl) rfl
theorem q624 : (Jvm.Cond.selects "IslandCall$Reader" ({ cls := "IslandCall$Reader", name := "boat", desc := "(LIslandCall$Boat;)V" } : Jvm.MethodName) ({ cls := "IslandCall$Reader", name := "boat", desc := "(LIslandCall$Boat;)V" } : Jvm.MethodName)) ∈ lw_all := lw_g (lw_at lw_m3 4 rfl) rfl
theorem q625 : (Jvm.Cond.code ({ cls := "IslandCall$Reader", name := "boat", desc := "(LIslandCall$Boat;)V" } : Jvm.MethodName) prog_9_method_21_code (2 : Nat) (Option.none : Option Jvm.ClassFile.FieldType)) ∈ lw_all := lw_g (lw_at lw_m3 5 rfl) rfl
theorem q626 : (Jvm.Cond.stringRef "IslandCall$Reader" (103 : Nat) "plank") ∈ lw_tbl := lw_at lw_m3 6 rfl
theorem q627 : (Jvm.Cond.methodLink "IslandCall$Reader" (72 : Nat) ({ cls := "IslandCall$Reader", name := "isWord", desc := "(Ljava/lang/String;)Z" } : Jvm.MethodName)) ∈ lw_all := lw_g (lw_at lw_m3 7 rfl) rfl
theorem q628 : (Jvm.Cond.privateMethod ({ cls := "IslandCall$Reader", name := "isWord", desc := "(Ljava/lang/String;)Z" } : Jvm.MethodName)) ∈ lw_tbl := lw_at lw_m3 8 rfl
theorem q629 : (Jvm.Cond.instanceMethod ({ cls := "IslandCall$Reader", name := "isWord", desc := "(Ljava/lang/String;)Z" } : Jvm.MethodName)) ∈ lw_all := lw_g (lw_at lw_m3 9 rfl) rfl
theorem q630 : (Jvm.Cond.code ({ cls := "IslandCall$Reader", name := "isWord", desc := "(Ljava/lang/String;)Z" } : Jvm.MethodName) prog_9_method_5_code (3 : Nat) (Option.some Jvm.ClassFile.FieldType.boolean)) ∈ lw_all := lw_g (lw_at lw_m3 10 rfl) rfl
theorem q631 : (Jvm.Cond.methodLink "IslandCall$Reader" (45 : Nat) ({ cls := "java/lang/String", name := "length", desc := "()I" } : Jvm.MethodName)) ∈ lw_all := lw_g (lw_at lw_m3 11 rfl) rfl
theorem q641 : (Jvm.Cond.methodLink "IslandCall$Reader" (51 : Nat) ({ cls := "java/lang/String", name := "charAt", desc := "(I)C" } : Jvm.MethodName)) ∈ lw_all := lw_g (lw_at lw_m3 21 rfl) rfl
theorem q679 : (Jvm.Cond.methodLink "IslandCall$Reader" (161 : Nat) ({ cls := "IslandCall$Reader", name := "once", desc := "(III)I" } : Jvm.MethodName)) ∈ lw_all := lw_g (lw_at lw_m3 59 rfl) rfl
theorem q680 : (Jvm.Cond.privateMethod ({ cls := "IslandCall$Reader", name := "once", desc := "(III)I" } : Jvm.MethodName)) ∈ lw_tbl := lw_at lw_m3 60 rfl
theorem q681 : (Jvm.Cond.instanceMethod ({ cls := "IslandCall$Reader", name := "once", desc := "(III)I" } : Jvm.MethodName)) ∈ lw_all := lw_g (lw_at lw_m3 61 rfl) rfl
theorem q682 : (Jvm.Cond.code ({ cls := "IslandCall$Reader", name := "once", desc := "(III)I" } : Jvm.MethodName) prog_9_method_22_code (4 : Nat) (Option.some Jvm.ClassFile.FieldType.int)) ∈ lw_all := lw_g (lw_at lw_m3 62 rfl) rfl
theorem q683 : (Jvm.Cond.methodLinkNest "IslandCall$Reader" (154 : Nat) ({ cls := "IslandCall", name := "has", desc := "(II)Z" } : Jvm.MethodName) "IslandCall") ∈ lw_tbl := lw_at lw_m3 63 rfl
theorem q686 : (Jvm.Cond.methodLink "IslandCall$Reader" (59 : Nat) ({ cls := "IslandCall$Bad", name := "at", desc := "(II)LIslandCall$Bad;" } : Jvm.MethodName)) ∈ lw_all := lw_g (lw_at lw_m3 66 rfl) rfl
theorem q690 : (Jvm.Cond.methodLink "IslandCall$Reader" (80 : Nat) ({ cls := "IslandCall$Reader", name := "number", desc := "(II)I" } : Jvm.MethodName)) ∈ lw_all := lw_g (lw_at lw_m3 70 rfl) rfl
theorem q691 : (Jvm.Cond.privateMethod ({ cls := "IslandCall$Reader", name := "number", desc := "(II)I" } : Jvm.MethodName)) ∈ lw_tbl := lw_at lw_m3 71 rfl
theorem q692 : (Jvm.Cond.instanceMethod ({ cls := "IslandCall$Reader", name := "number", desc := "(II)I" } : Jvm.MethodName)) ∈ lw_all := lw_g (lw_at lw_m3 72 rfl) rfl
theorem q693 : (Jvm.Cond.code ({ cls := "IslandCall$Reader", name := "number", desc := "(II)I" } : Jvm.MethodName) prog_9_method_10_code (4 : Nat) (Option.some Jvm.ClassFile.FieldType.int)) ∈ lw_all := lw_g (lw_at lw_m3 73 rfl) rfl
theorem q694 : (Jvm.Cond.methodLink "IslandCall$Reader" (68 : Nat) ({ cls := "IslandCall$Reader", name := "wrong", desc := "()LIslandCall$Bad;" } : Jvm.MethodName)) ∈ lw_all := lw_g (lw_at lw_m3 74 rfl) rfl
theorem q695 : (Jvm.Cond.privateMethod ({ cls := "IslandCall$Reader", name := "wrong", desc := "()LIslandCall$Bad;" } : Jvm.MethodName)) ∈ lw_tbl := lw_at lw_m3 75 rfl
theorem q696 : (Jvm.Cond.instanceMethod ({ cls := "IslandCall$Reader", name := "wrong", desc := "()LIslandCall$Bad;" } : Jvm.MethodName)) ∈ lw_all := lw_g (lw_at lw_m3 76 rfl) rfl
theorem q697 : (Jvm.Cond.code ({ cls := "IslandCall$Reader", name := "wrong", desc := "()LIslandCall$Bad;" } : Jvm.MethodName) prog_9_method_7_code (1 : Nat) (Option.some (Jvm.ClassFile.FieldType.object "IslandCall$Bad"))) ∈ lw_all := lw_g (lw_at lw_m3 77 rfl) rfl
theorem q698 : (Jvm.Cond.stringRef "IslandCall$Reader" (105 : Nat) "habit") ∈ lw_tbl := lw_at lw_m3 78 rfl
theorem q699 : (Jvm.Cond.stringRef "IslandCall$Reader" (107 : Nat) "odds") ∈ lw_tbl := lw_at lw_m3 79 rfl
theorem q700 : (Jvm.Cond.stringRef "IslandCall$Reader" (109 : Nat) "sign") ∈ lw_tbl := lw_at lw_m3 80 rfl
theorem q701 : (Jvm.Cond.methodLink "IslandCall$Reader" (171 : Nat) ({ cls := "IslandCall$Reader", name := "newOmen", desc := "(LIslandCall$Boat;)V" } : Jvm.MethodName)) ∈ lw_all := lw_g (lw_at lw_m3 81 rfl) rfl
theorem q702 : (Jvm.Cond.privateMethod ({ cls := "IslandCall$Reader", name := "newOmen", desc := "(LIslandCall$Boat;)V" } : Jvm.MethodName)) ∈ lw_tbl := lw_at lw_m3 82 rfl
theorem q703 : (Jvm.Cond.instanceMethod ({ cls := "IslandCall$Reader", name := "newOmen", desc := "(LIslandCall$Boat;)V" } : Jvm.MethodName)) ∈ lw_all := lw_g (lw_at lw_m3 83 rfl) rfl
theorem q704 : (Jvm.Cond.code ({ cls := "IslandCall$Reader", name := "newOmen", desc := "(LIslandCall$Boat;)V" } : Jvm.MethodName) prog_9_method_23_code (5 : Nat) (Option.none : Option Jvm.ClassFile.FieldType)) ∈ lw_all := lw_g (lw_at lw_m3 84 rfl) rfl
theorem q705 : (Jvm.Cond.methodLink "IslandCall$Reader" (189 : Nat) ({ cls := "IslandCall$Reader", name := "fresh", desc := "(LIslandCall$Boat;Z)J" } : Jvm.MethodName)) ∈ lw_all := lw_g (lw_at lw_m3 85 rfl) rfl
theorem q706 : (Jvm.Cond.privateMethod ({ cls := "IslandCall$Reader", name := "fresh", desc := "(LIslandCall$Boat;Z)J" } : Jvm.MethodName)) ∈ lw_tbl := lw_at lw_m3 86 rfl
theorem q707 : (Jvm.Cond.instanceMethod ({ cls := "IslandCall$Reader", name := "fresh", desc := "(LIslandCall$Boat;Z)J" } : Jvm.MethodName)) ∈ lw_all := lw_g (lw_at lw_m3 87 rfl) rfl
theorem q708 : (Jvm.Cond.code ({ cls := "IslandCall$Reader", name := "fresh", desc := "(LIslandCall$Boat;Z)J" } : Jvm.MethodName) prog_9_method_17_code (5 : Nat) (Option.some Jvm.ClassFile.FieldType.long)) ∈ lw_all := lw_g (lw_at lw_m3 88 rfl) rfl
theorem q709 : (Jvm.Cond.methodLink "IslandCall$Reader" (141 : Nat) ({ cls := "IslandCall$Reader", name := "name", desc := "()J" } : Jvm.MethodName)) ∈ lw_all := lw_g (lw_at lw_m3 89 rfl) rfl
theorem q710 : (Jvm.Cond.privateMethod ({ cls := "IslandCall$Reader", name := "name", desc := "()J" } : Jvm.MethodName)) ∈ lw_tbl := lw_at lw_m3 90 rfl
theorem q711 : (Jvm.Cond.instanceMethod ({ cls := "IslandCall$Reader", name := "name", desc := "()J" } : Jvm.MethodName)) ∈ lw_all := lw_g (lw_at lw_m3 91 rfl) rfl
theorem q712 : (Jvm.Cond.code ({ cls := "IslandCall$Reader", name := "name", desc := "()J" } : Jvm.MethodName) prog_9_method_16_code (4 : Nat) (Option.some Jvm.ClassFile.FieldType.long)) ∈ lw_all := lw_g (lw_at lw_m3 92 rfl) rfl
theorem q713 : (Jvm.Cond.methodLink "IslandCall$Reader" (133 : Nat) ({ cls := "IslandCall$Reader", name := "isKept", desc := "()Z" } : Jvm.MethodName)) ∈ lw_all := lw_g (lw_at lw_m3 93 rfl) rfl
theorem q714 : (Jvm.Cond.privateMethod ({ cls := "IslandCall$Reader", name := "isKept", desc := "()Z" } : Jvm.MethodName)) ∈ lw_tbl := lw_at lw_m3 94 rfl
theorem q715 : (Jvm.Cond.instanceMethod ({ cls := "IslandCall$Reader", name := "isKept", desc := "()Z" } : Jvm.MethodName)) ∈ lw_all := lw_g (lw_at lw_m3 95 rfl) rfl
theorem q716 : (Jvm.Cond.code ({ cls := "IslandCall$Reader", name := "isKept", desc := "()Z" } : Jvm.MethodName) prog_9_method_15_code (3 : Nat) (Option.some Jvm.ClassFile.FieldType.boolean)) ∈ lw_all := lw_g (lw_at lw_m3 96 rfl) rfl
theorem q717 : (Jvm.Cond.stringRef "IslandCall$Reader" (111 : Nat) "pulls") ∈ lw_tbl := lw_at lw_m3 97 rfl
theorem q718 : (Jvm.Cond.stringRef "IslandCall$Reader" (113 : Nat) "shown") ∈ lw_tbl := lw_at lw_m3 98 rfl
theorem q719 : (Jvm.Cond.stringRef "IslandCall$Reader" (115 : Nat) "person") ∈ lw_tbl := lw_at lw_m3 99 rfl
theorem q720 : (Jvm.Cond.stringRef "IslandCall$Reader" (117 : Nat) "against") ∈ lw_tbl := lw_at lw_m3 100 rfl
theorem q721 : (Jvm.Cond.stringRef "IslandCall$Reader" (119 : Nat) "blind") ∈ lw_tbl := lw_at lw_m3 101 rfl
theorem q722 : (Jvm.Cond.stringRef "IslandCall$Reader" (121 : Nat) "when") ∈ lw_tbl := lw_at lw_m3 102 rfl
theorem q723 : (Jvm.Cond.stringRef "IslandCall$Reader" (123 : Nat) "loop") ∈ lw_tbl := lw_at lw_m3 103 rfl
theorem q724 : (Jvm.Cond.stringRef "IslandCall$Reader" (125 : Nat) "end") ∈ lw_tbl := lw_at lw_m3 104 rfl
theorem q725 : (Jvm.Cond.methodLink "IslandCall$Reader" (127 : Nat) ({ cls := "IslandCall$Reader", name := "acts", desc := "()I" } : Jvm.MethodName)) ∈ lw_all := lw_g (lw_at lw_m3 105 rfl) rfl
theorem q726 : (Jvm.Cond.privateMethod ({ cls := "IslandCall$Reader", name := "acts", desc := "()I" } : Jvm.MethodName)) ∈ lw_tbl := lw_at lw_m3 106 rfl
theorem q727 : (Jvm.Cond.instanceMethod ({ cls := "IslandCall$Reader", name := "acts", desc := "()I" } : Jvm.MethodName)) ∈ lw_all := lw_g (lw_at lw_m3 107 rfl) rfl
theorem q728 : (Jvm.Cond.code ({ cls := "IslandCall$Reader", name := "acts", desc := "()I" } : Jvm.MethodName) prog_9_method_13_code (1 : Nat) (Option.some Jvm.ClassFile.FieldType.int)) ∈ lw_all := lw_g (lw_at lw_m3 108 rfl) rfl
theorem q729 : (Jvm.Cond.stringRef "IslandCall$Reader" (83 : Nat) "call") ∈ lw_tbl := lw_at lw_m3 109 rfl
theorem q730 : (Jvm.Cond.stringRef "IslandCall$Reader" (85 : Nat) "show") ∈ lw_tbl := lw_at lw_m3 110 rfl
theorem q731 : (Jvm.Cond.stringRef "IslandCall$Reader" (87 : Nat) "hide") ∈ lw_tbl := lw_at lw_m3 111 rfl
theorem q732 : (Jvm.Cond.stringRef "IslandCall$Reader" (89 : Nat) "board") ∈ lw_tbl := lw_at lw_m3 112 rfl
theorem q733 : (Jvm.Cond.stringRef "IslandCall$Reader" (91 : Nat) "sway") ∈ lw_tbl := lw_at lw_m3 113 rfl
theorem q734 : (Jvm.Cond.stringRef "IslandCall$Reader" (93 : Nat) "any") ∈ lw_tbl := lw_at lw_m3 114 rfl
theorem q735 : (Jvm.Cond.stringRef "IslandCall$Reader" (95 : Nat) "stop") ∈ lw_tbl := lw_at lw_m3 115 rfl
theorem q736 : (Jvm.Cond.methodLink "IslandCall$Reader" (130 : Nat) ({ cls := "IslandCall$Reader", name := "tests", desc := "()I" } : Jvm.MethodName)) ∈ lw_all := lw_g (lw_at lw_m3 116 rfl) rfl
theorem q737 : (Jvm.Cond.privateMethod ({ cls := "IslandCall$Reader", name := "tests", desc := "()I" } : Jvm.MethodName)) ∈ lw_tbl := lw_at lw_m3 117 rfl
theorem q738 : (Jvm.Cond.instanceMethod ({ cls := "IslandCall$Reader", name := "tests", desc := "()I" } : Jvm.MethodName)) ∈ lw_all := lw_g (lw_at lw_m3 118 rfl) rfl
theorem q739 : (Jvm.Cond.code ({ cls := "IslandCall$Reader", name := "tests", desc := "()I" } : Jvm.MethodName) prog_9_method_14_code (1 : Nat) (Option.some Jvm.ClassFile.FieldType.int)) ∈ lw_all := lw_g (lw_at lw_m3 119 rfl) rfl
theorem q740 : (Jvm.Cond.stringRef "IslandCall$Reader" (97 : Nat) "out") ∈ lw_tbl := lw_at lw_m3 120 rfl
theorem q741 : (Jvm.Cond.stringRef "IslandCall$Reader" (99 : Nat) "shows") ∈ lw_tbl := lw_at lw_m3 121 rfl
theorem q742 : (Jvm.Cond.stringRef "IslandCall$Reader" (101 : Nat) "holds") ∈ lw_tbl := lw_at lw_m3 122 rfl
theorem q743 : (Jvm.Cond.constantLong "IslandCall$Reader" (137 : Nat) (32 : Int64)) ∈ lw_all := lw_g (lw_at lw_m3 123 rfl) rfl
theorem q744 : (Jvm.Cond.constantLong "IslandCall$Reader" (139 : Nat) (96 : Int64)) ∈ lw_all := lw_g (lw_at lw_m3 124 rfl) rfl
theorem q745 : (Jvm.Cond.methodLink "IslandCall$Reader" (145 : Nat) ({ cls := "IslandCall$Boat", name := "omenNamed", desc := "(J)I" } : Jvm.MethodName)) ∈ lw_all := lw_g (lw_at lw_m3 125 rfl) rfl
theorem q752 : (Jvm.Cond.methodLink "IslandCall$Reader" (151 : Nat) ({ cls := "IslandCall$Boat", name := "personNamed", desc := "(J)I" } : Jvm.MethodName)) ∈ lw_all := lw_g (lw_at lw_m3 132 rfl) rfl
theorem q756 : (Jvm.Cond.methodLink "IslandCall$Reader" (197 : Nat) ({ cls := "IslandCall$Reader", name := "behind", desc := "(Ljava/lang/String;II)I" } : Jvm.MethodName)) ∈ lw_all := lw_g (lw_at lw_m3 136 rfl) rfl
theorem q757 : (Jvm.Cond.privateMethod ({ cls := "IslandCall$Reader", name := "behind", desc := "(Ljava/lang/String;II)I" } : Jvm.MethodName)) ∈ lw_tbl := lw_at lw_m3 137 rfl
theorem q758 : (Jvm.Cond.instanceMethod ({ cls := "IslandCall$Reader", name := "behind", desc := "(Ljava/lang/String;II)I" } : Jvm.MethodName)) ∈ lw_all := lw_g (lw_at lw_m3 138 rfl) rfl
theorem q759 : (Jvm.Cond.code ({ cls := "IslandCall$Reader", name := "behind", desc := "(Ljava/lang/String;II)I" } : Jvm.MethodName) prog_9_method_11_code (4 : Nat) (Option.some Jvm.ClassFile.FieldType.int)) ∈ lw_all := lw_g (lw_at lw_m3 139 rfl) rfl
theorem q760 : (Jvm.Cond.methodLink "IslandCall$Reader" (76 : Nat) ({ cls := "IslandCall$Reader", name := "word", desc := "(Ljava/lang/String;)V" } : Jvm.MethodName)) ∈ lw_all := lw_g (lw_at lw_m3 140 rfl) rfl
theorem q761 : (Jvm.Cond.privateMethod ({ cls := "IslandCall$Reader", name := "word", desc := "(Ljava/lang/String;)V" } : Jvm.MethodName)) ∈ lw_tbl := lw_at lw_m3 141 rfl
theorem q762 : (Jvm.Cond.instanceMethod ({ cls := "IslandCall$Reader", name := "word", desc := "(Ljava/lang/String;)V" } : Jvm.MethodName)) ∈ lw_all := lw_g (lw_at lw_m3 142 rfl) rfl
theorem q763 : (Jvm.Cond.code ({ cls := "IslandCall$Reader", name := "word", desc := "(Ljava/lang/String;)V" } : Jvm.MethodName) prog_9_method_9_code (2 : Nat) (Option.none : Option Jvm.ClassFile.FieldType)) ∈ lw_all := lw_g (lw_at lw_m3 143 rfl) rfl
theorem q764 : (Jvm.Cond.methodLink "IslandCall$Reader" (202 : Nat) ({ cls := "IslandCall$Reader", name := "reads", desc := "(Ljava/lang/String;)Z" } : Jvm.MethodName)) ∈ lw_all := lw_g (lw_at lw_m3 144 rfl) rfl
theorem q765 : (Jvm.Cond.privateMethod ({ cls := "IslandCall$Reader", name := "reads", desc := "(Ljava/lang/String;)Z" } : Jvm.MethodName)) ∈ lw_tbl := lw_at lw_m3 145 rfl
theorem q766 : (Jvm.Cond.instanceMethod ({ cls := "IslandCall$Reader", name := "reads", desc := "(Ljava/lang/String;)Z" } : Jvm.MethodName)) ∈ lw_all := lw_g (lw_at lw_m3 146 rfl) rfl
theorem q767 : (Jvm.Cond.code ({ cls := "IslandCall$Reader", name := "reads", desc := "(Ljava/lang/String;)Z" } : Jvm.MethodName) prog_9_method_12_code (2 : Nat) (Option.some Jvm.ClassFile.FieldType.boolean)) ∈ lw_all := lw_g (lw_at lw_m3 147 rfl) rfl
theorem q768 : (Jvm.Cond.methodLink "IslandCall$Reader" (175 : Nat) ({ cls := "IslandCall$Reader", name := "newPerson", desc := "(LIslandCall$Boat;)V" } : Jvm.MethodName)) ∈ lw_all := lw_g (lw_at lw_m3 148 rfl) rfl
theorem q769 : (Jvm.Cond.privateMethod ({ cls := "IslandCall$Reader", name := "newPerson", desc := "(LIslandCall$Boat;)V" } : Jvm.MethodName)) ∈ lw_tbl := lw_at lw_m3 149 rfl
theorem q770 : (Jvm.Cond.instanceMethod ({ cls := "IslandCall$Reader", name := "newPerson", desc := "(LIslandCall$Boat;)V" } : Jvm.MethodName)) ∈ lw_all := lw_g (lw_at lw_m3 150 rfl) rfl
theorem q771 : (Jvm.Cond.code ({ cls := "IslandCall$Reader", name := "newPerson", desc := "(LIslandCall$Boat;)V" } : Jvm.MethodName) prog_9_method_24_code (8 : Nat) (Option.none : Option Jvm.ClassFile.FieldType)) ∈ lw_all := lw_g (lw_at lw_m3 151 rfl) rfl
theorem q772 : (Jvm.Cond.methodLink "IslandCall$Reader" (158 : Nat) ({ cls := "IslandCall$Reader", name := "known", desc := "(II)I" } : Jvm.MethodName)) ∈ lw_all := lw_g (lw_at lw_m3 152 rfl) rfl
theorem q773 : (Jvm.Cond.privateMethod ({ cls := "IslandCall$Reader", name := "known", desc := "(II)I" } : Jvm.MethodName)) ∈ lw_tbl := lw_at lw_m3 153 rfl
theorem q774 : (Jvm.Cond.instanceMethod ({ cls := "IslandCall$Reader", name := "known", desc := "(II)I" } : Jvm.MethodName)) ∈ lw_all := lw_g (lw_at lw_m3 154 rfl) rfl
theorem q775 : (Jvm.Cond.code ({ cls := "IslandCall$Reader", name := "known", desc := "(II)I" } : Jvm.MethodName) prog_9_method_18_code (3 : Nat) (Option.some Jvm.ClassFile.FieldType.int)) ∈ lw_all := lw_g (lw_at lw_m3 155 rfl) rfl
theorem q776 : (Jvm.Cond.methodLink "IslandCall$Reader" (212 : Nat) ({ cls := "IslandCall$Boat", name := "comes", desc := "(I)V" } : Jvm.MethodName)) ∈ lw_all := lw_g (lw_at lw_m3 156 rfl) rfl
theorem q780 : (Jvm.Cond.methodLink "IslandCall$Reader" (178 : Nat) ({ cls := "IslandCall$Reader", name := "blind", desc := "(LIslandCall$Boat;)V" } : Jvm.MethodName)) ∈ lw_all := lw_g (lw_at lw_m3 160 rfl) rfl
theorem q781 : (Jvm.Cond.privateMethod ({ cls := "IslandCall$Reader", name := "blind", desc := "(LIslandCall$Boat;)V" } : Jvm.MethodName)) ∈ lw_tbl := lw_at lw_m3 161 rfl
theorem q782 : (Jvm.Cond.instanceMethod ({ cls := "IslandCall$Reader", name := "blind", desc := "(LIslandCall$Boat;)V" } : Jvm.MethodName)) ∈ lw_all := lw_g (lw_at lw_m3 162 rfl) rfl
theorem q783 : (Jvm.Cond.code ({ cls := "IslandCall$Reader", name := "blind", desc := "(LIslandCall$Boat;)V" } : Jvm.MethodName) prog_9_method_25_code (3 : Nat) (Option.none : Option Jvm.ClassFile.FieldType)) ∈ lw_all := lw_g (lw_at lw_m3 163 rfl) rfl
theorem q784 : (Jvm.Cond.methodLink "IslandCall$Reader" (225 : Nat) ({ cls := "IslandCall$Reader", name := "person", desc := "(LIslandCall$Boat;)I" } : Jvm.MethodName)) ∈ lw_all := lw_g (lw_at lw_m3 164 rfl) rfl
theorem q785 : (Jvm.Cond.privateMethod ({ cls := "IslandCall$Reader", name := "person", desc := "(LIslandCall$Boat;)I" } : Jvm.MethodName)) ∈ lw_tbl := lw_at lw_m3 165 rfl
theorem q786 : (Jvm.Cond.instanceMethod ({ cls := "IslandCall$Reader", name := "person", desc := "(LIslandCall$Boat;)I" } : Jvm.MethodName)) ∈ lw_all := lw_g (lw_at lw_m3 166 rfl) rfl
theorem q787 : (Jvm.Cond.code ({ cls := "IslandCall$Reader", name := "person", desc := "(LIslandCall$Boat;)I" } : Jvm.MethodName) prog_9_method_20_code (2 : Nat) (Option.some Jvm.ClassFile.FieldType.int)) ∈ lw_all := lw_g (lw_at lw_m3 167 rfl) rfl
theorem q788 : (Jvm.Cond.methodLink "IslandCall$Reader" (180 : Nat) ({ cls := "IslandCall$Reader", name := "close", desc := "()V" } : Jvm.MethodName)) ∈ lw_all := lw_g (lw_at lw_m3 168 rfl) rfl
theorem q789 : (Jvm.Cond.privateMethod ({ cls := "IslandCall$Reader", name := "close", desc := "()V" } : Jvm.MethodName)) ∈ lw_tbl := lw_at lw_m3 169 rfl
theorem q790 : (Jvm.Cond.instanceMethod ({ cls := "IslandCall$Reader", name := "close", desc := "()V" } : Jvm.MethodName)) ∈ lw_all := lw_g (lw_at lw_m3 170 rfl) rfl
theorem q791 : (Jvm.Cond.code ({ cls := "IslandCall$Reader", name := "close", desc := "()V" } : Jvm.MethodName) prog_9_method_8_code (1 : Nat) (Option.none : Option Jvm.ClassFile.FieldType)) ∈ lw_all := lw_g (lw_at lw_m3 171 rfl) rfl
theorem q792 : (Jvm.Cond.methodLink "IslandCall$Reader" (64 : Nat) ({ cls := "IslandCall$Reader", name := "isSign", desc := "(C)Z" } : Jvm.MethodName)) ∈ lw_all := lw_g (lw_at lw_m3 172 rfl) rfl
theorem q793 : (Jvm.Cond.privateMethod ({ cls := "IslandCall$Reader", name := "isSign", desc := "(C)Z" } : Jvm.MethodName)) ∈ lw_tbl := lw_at lw_m3 173 rfl
theorem q794 : (Jvm.Cond.instanceMethod ({ cls := "IslandCall$Reader", name := "isSign", desc := "(C)Z" } : Jvm.MethodName)) ∈ lw_all := lw_g (lw_at lw_m3 174 rfl) rfl
theorem q795 : (Jvm.Cond.code ({ cls := "IslandCall$Reader", name := "isSign", desc := "(C)Z" } : Jvm.MethodName) prog_9_method_6_code (2 : Nat) (Option.some Jvm.ClassFile.FieldType.boolean)) ∈ lw_all := lw_g (lw_at lw_m3 175 rfl) rfl
theorem q841 : (Jvm.Cond.instanceMethod ({ cls := "IslandCall$Reader", name := "years", desc := "(LIslandCall$Boat;LIslandCall$Block;)V" } : Jvm.MethodName)) ∈ lw_all := lw_g (lw_at lw_m3 221 rfl) rfl
theorem q842 : (Jvm.Cond.selects "IslandCall$Reader" ({ cls := "IslandCall$Reader", name := "years", desc := "(LIslandCall$Boat;LIslandCall$Block;)V" } : Jvm.MethodName) ({ cls := "IslandCall$Reader", name := "years", desc := "(LIslandCall$Boat;LIslandCall$Block;)V" } : Jvm.MethodName)) ∈ lw_all := lw_g (lw_at lw_m3 222 rfl) rfl
theorem q843 : (Jvm.Cond.code ({ cls := "IslandCall$Reader", name := "years", desc := "(LIslandCall$Boat;LIslandCall$Block;)V" } : Jvm.MethodName) prog_9_method_26_code (3 : Nat) (Option.none : Option Jvm.ClassFile.FieldType)) ∈ lw_all := lw_g (lw_at lw_m3 223 rfl) rfl
theorem q844 : (Jvm.Cond.methodLink "IslandCall$Reader" (230 : Nat) ({ cls := "IslandCall$Reader", name := "step", desc := "(LIslandCall$Boat;LIslandCall$Block;I)V" } : Jvm.MethodName)) ∈ lw_all := lw_g (lw_at lw_m3 224 rfl) rfl
theorem q845 : (Jvm.Cond.privateMethod ({ cls := "IslandCall$Reader", name := "step", desc := "(LIslandCall$Boat;LIslandCall$Block;I)V" } : Jvm.MethodName)) ∈ lw_tbl := lw_at lw_m3 225 rfl
theorem q846 : (Jvm.Cond.instanceMethod ({ cls := "IslandCall$Reader", name := "step", desc := "(LIslandCall$Boat;LIslandCall$Block;I)V" } : Jvm.MethodName)) ∈ lw_all := lw_g (lw_at lw_m3 226 rfl) rfl
theorem q847 : (Jvm.Cond.code ({ cls := "IslandCall$Reader", name := "step", desc := "(LIslandCall$Boat;LIslandCall$Block;I)V" } : Jvm.MethodName) prog_9_method_27_code (7 : Nat) (Option.none : Option Jvm.ClassFile.FieldType)) ∈ lw_all := lw_g (lw_at lw_m3 227 rfl) rfl
theorem q848 : (Jvm.Cond.methodLink "IslandCall$Reader" (237 : Nat) ({ cls := "IslandCall$Reader", name := "block", desc := "(LIslandCall$Boat;ZI)LIslandCall$Block;" } : Jvm.MethodName)) ∈ lw_all := lw_g (lw_at lw_m3 228 rfl) rfl
theorem q849 : (Jvm.Cond.privateMethod ({ cls := "IslandCall$Reader", name := "block", desc := "(LIslandCall$Boat;ZI)LIslandCall$Block;" } : Jvm.MethodName)) ∈ lw_tbl := lw_at lw_m3 229 rfl
theorem q850 : (Jvm.Cond.instanceMethod ({ cls := "IslandCall$Reader", name := "block", desc := "(LIslandCall$Boat;ZI)LIslandCall$Block;" } : Jvm.MethodName)) ∈ lw_all := lw_g (lw_at lw_m3 230 rfl) rfl
theorem q851 : (Jvm.Cond.code ({ cls := "IslandCall$Reader", name := "block", desc := "(LIslandCall$Boat;ZI)LIslandCall$Block;" } : Jvm.MethodName) prog_9_method_29_code (5 : Nat) (Option.some (Jvm.ClassFile.FieldType.object "IslandCall$Block"))) ∈ lw_all := lw_g (lw_at lw_m3 231 rfl) rfl
theorem q852 : (Jvm.Cond.methodLink "IslandCall$Reader" (259 : Nat) ({ cls := "IslandCall$Reader", name := "when", desc := "(LIslandCall$Boat;)LIslandCall$When;" } : Jvm.MethodName)) ∈ lw_all := lw_g (lw_at lw_m3 232 rfl) rfl
theorem q853 : (Jvm.Cond.privateMethod ({ cls := "IslandCall$Reader", name := "when", desc := "(LIslandCall$Boat;)LIslandCall$When;" } : Jvm.MethodName)) ∈ lw_tbl := lw_at lw_m3 233 rfl
theorem q854 : (Jvm.Cond.instanceMethod ({ cls := "IslandCall$Reader", name := "when", desc := "(LIslandCall$Boat;)LIslandCall$When;" } : Jvm.MethodName)) ∈ lw_all := lw_g (lw_at lw_m3 234 rfl) rfl
theorem q855 : (Jvm.Cond.code ({ cls := "IslandCall$Reader", name := "when", desc := "(LIslandCall$Boat;)LIslandCall$When;" } : Jvm.MethodName) prog_9_method_30_code (5 : Nat) (Option.some (Jvm.ClassFile.FieldType.object "IslandCall$When"))) ∈ lw_all := lw_g (lw_at lw_m3 235 rfl) rfl
theorem q856 : (Jvm.Cond.methodLink "IslandCall$Reader" (256 : Nat) ({ cls := "IslandCall$Reader", name := "omen", desc := "(LIslandCall$Boat;)I" } : Jvm.MethodName)) ∈ lw_all := lw_g (lw_at lw_m3 236 rfl) rfl
theorem q857 : (Jvm.Cond.privateMethod ({ cls := "IslandCall$Reader", name := "omen", desc := "(LIslandCall$Boat;)I" } : Jvm.MethodName)) ∈ lw_tbl := lw_at lw_m3 237 rfl
theorem q858 : (Jvm.Cond.instanceMethod ({ cls := "IslandCall$Reader", name := "omen", desc := "(LIslandCall$Boat;)I" } : Jvm.MethodName)) ∈ lw_all := lw_g (lw_at lw_m3 238 rfl) rfl
theorem q859 : (Jvm.Cond.code ({ cls := "IslandCall$Reader", name := "omen", desc := "(LIslandCall$Boat;)I" } : Jvm.MethodName) prog_9_method_19_code (2 : Nat) (Option.some Jvm.ClassFile.FieldType.int)) ∈ lw_all := lw_g (lw_at lw_m3 239 rfl) rfl
theorem q860 : (Jvm.Cond.classLink "IslandCall$Reader" (266 : Nat) "IslandCall$When") ∈ lw_all := lw_g (lw_at lw_m4 0 rfl) rfl
theorem q862 : (Jvm.Cond.methodLink "IslandCall$Reader" (268 : Nat) ({ cls := "IslandCall$When", name := "<init>", desc := "(IIII)V" } : Jvm.MethodName)) ∈ lw_all := lw_g (lw_at lw_m4 2 rfl) rfl
theorem q881 : (Jvm.Cond.classLink "IslandCall$Reader" (262 : Nat) "IslandCall$Loop") ∈ lw_all := lw_g (lw_at lw_m4 21 rfl) rfl
theorem q882 : (Jvm.Cond.methodLink "IslandCall$Reader" (264 : Nat) ({ cls := "IslandCall$Loop", name := "<init>", desc := "(I)V" } : Jvm.MethodName)) ∈ lw_all := lw_g (lw_at lw_m4 22 rfl) rfl
theorem q883 : (Jvm.Cond.methodLink "IslandCall$Reader" (241 : Nat) ({ cls := "IslandCall$Reader", name := "plain", desc := "(LIslandCall$Boat;)LIslandCall$Step;" } : Jvm.MethodName)) ∈ lw_all := lw_g (lw_at lw_m4 23 rfl) rfl
theorem q884 : (Jvm.Cond.privateMethod ({ cls := "IslandCall$Reader", name := "plain", desc := "(LIslandCall$Boat;)LIslandCall$Step;" } : Jvm.MethodName)) ∈ lw_tbl := lw_at lw_m4 24 rfl
theorem q885 : (Jvm.Cond.instanceMethod ({ cls := "IslandCall$Reader", name := "plain", desc := "(LIslandCall$Boat;)LIslandCall$Step;" } : Jvm.MethodName)) ∈ lw_all := lw_g (lw_at lw_m4 25 rfl) rfl
theorem q886 : (Jvm.Cond.code ({ cls := "IslandCall$Reader", name := "plain", desc := "(LIslandCall$Boat;)LIslandCall$Step;" } : Jvm.MethodName) prog_9_method_28_code (4 : Nat) (Option.some (Jvm.ClassFile.FieldType.object "IslandCall$Step"))) ∈ lw_all := lw_g (lw_at lw_m4 26 rfl) rfl
theorem q887 : (Jvm.Cond.classLink "IslandCall$Reader" (251 : Nat) "IslandCall$Act") ∈ lw_all := lw_g (lw_at lw_m4 27 rfl) rfl
theorem q889 : (Jvm.Cond.methodLink "IslandCall$Reader" (253 : Nat) ({ cls := "IslandCall$Act", name := "<init>", desc := "(III)V" } : Jvm.MethodName)) ∈ lw_all := lw_g (lw_at lw_m4 29 rfl) rfl
theorem q903 : (Jvm.Cond.methodLink "IslandCall$Reader" (245 : Nat) ({ cls := "IslandCall$Block", name := "add", desc := "(LIslandCall$Step;)V" } : Jvm.MethodName)) ∈ lw_all := lw_g (lw_at lw_m4 43 rfl) rfl
theorem in_X7 : ∀ w ∈ wsX70, w ∈ lw_all := lw_in wsX70 [605, 607, 609, 611, 613, 615, 617, 619] (by decide +kernel) (by decide +kernel)

/-! IslandCall$Step -/
set_option maxRecDepth 100000
def RX8 : String := "IslandCall$Step"
abbrev cX8_init : ByteArray := prog_11_method_1_code
def yX8_init : MethodName := ⟨RX8, "<init>", "()V"⟩
theorem dX8_init_0 : decode cX8_init 0 = .ok (.aload_n 0, 1) := by decide +kernel
theorem dX8_init_1 : decode cX8_init 1 = .ok (.invokespecial 3, 3) := by decide +kernel
theorem dX8_init_4 : decode cX8_init 4 = .ok (.return_, 1) := by decide +kernel
abbrev cX8_go : ByteArray := prog_11_method_3_code
def yX8_go : MethodName := ⟨RX8, "go", "(LIslandCall$Living;)V"⟩
def dkwX8_go_1 : List UInt8 := [180, 0, 9, 4, 96, 181, 0, 9, 42, 43, 182, 0, 22, 177]
abbrev dktX8_go_1 : List UInt8 := dkwX8_go_1 ++ []
def dkwX8_go_0 : List UInt8 := [43, 180, 0, 9, 17, 1, 44, 160, 0, 14, 43, 4, 181, 0, 15, 43, 4, 181, 0, 19, 177, 43, 89]
abbrev dktX8_go_0 : List UInt8 := dkwX8_go_0 ++ dktX8_go_1
theorem dksX8_go_0 : cX8_go.data.toList.drop 0 = dktX8_go_0 := by decide +kernel
theorem dksX8_go_1 : cX8_go.data.toList.drop 23 = dktX8_go_1 := dk_seg dksX8_go_0 23 rfl rfl
theorem dX8_go_0 : decode cX8_go 0 = .ok (.aload_n 1, 1) := dk_43 (dk_at dksX8_go_0 0 rfl rfl)
theorem dX8_go_1 : decode cX8_go 1 = .ok (.getfield 9, 3) := dk_180 0 9 (dk_at dksX8_go_0 1 rfl rfl)
theorem dX8_go_4 : decode cX8_go 4 = .ok (.sipush 300, 3) := dk_17 1 44 (dk_at dksX8_go_0 4 rfl rfl)
theorem dX8_go_7 : decode cX8_go 7 = .ok (.if_icmp .ne 14, 3) := dk_160 0 14 (dk_at dksX8_go_0 7 rfl rfl)
theorem dX8_go_10 : decode cX8_go 10 = .ok (.aload_n 1, 1) := dk_43 (dk_at dksX8_go_0 10 rfl rfl)
theorem dX8_go_11 : decode cX8_go 11 = .ok (.iconst 1, 1) := dk_4 (dk_at dksX8_go_0 11 rfl rfl)
theorem dX8_go_12 : decode cX8_go 12 = .ok (.putfield 15, 3) := dk_181 0 15 (dk_at dksX8_go_0 12 rfl rfl)
theorem dX8_go_15 : decode cX8_go 15 = .ok (.aload_n 1, 1) := dk_43 (dk_at dksX8_go_0 15 rfl rfl)
theorem dX8_go_16 : decode cX8_go 16 = .ok (.iconst 1, 1) := dk_4 (dk_at dksX8_go_0 16 rfl rfl)
theorem dX8_go_17 : decode cX8_go 17 = .ok (.putfield 19, 3) := dk_181 0 19 (dk_at dksX8_go_0 17 rfl rfl)
theorem dX8_go_20 : decode cX8_go 20 = .ok (.return_, 1) := dk_177 (dk_at dksX8_go_0 20 rfl rfl)
theorem dX8_go_21 : decode cX8_go 21 = .ok (.aload_n 1, 1) := dk_43 (dk_at dksX8_go_0 21 rfl rfl)
theorem dX8_go_22 : decode cX8_go 22 = .ok (.dup, 1) := dk_89 (dk_at dksX8_go_0 22 rfl rfl)
theorem dX8_go_23 : decode cX8_go 23 = .ok (.getfield 9, 3) := dk_180 0 9 (dk_at dksX8_go_1 0 rfl rfl)
theorem dX8_go_26 : decode cX8_go 26 = .ok (.iconst 1, 1) := dk_4 (dk_at dksX8_go_1 3 rfl rfl)
theorem dX8_go_27 : decode cX8_go 27 = .ok (.iadd, 1) := dk_96 (dk_at dksX8_go_1 4 rfl rfl)
theorem dX8_go_28 : decode cX8_go 28 = .ok (.putfield 9, 3) := dk_181 0 9 (dk_at dksX8_go_1 5 rfl rfl)
theorem dX8_go_31 : decode cX8_go 31 = .ok (.aload_n 0, 1) := dk_42 (dk_at dksX8_go_1 8 rfl rfl)
theorem dX8_go_32 : decode cX8_go 32 = .ok (.aload_n 1, 1) := dk_43 (dk_at dksX8_go_1 9 rfl rfl)
theorem dX8_go_33 : decode cX8_go 33 = .ok (.invokevirtual 22, 3) := dk_182 0 22 (dk_at dksX8_go_1 10 rfl rfl)
theorem dX8_go_36 : decode cX8_go 36 = .ok (.return_, 1) := dk_177 (dk_at dksX8_go_1 13 rfl rfl)
theorem q161 : (Jvm.Cond.initialized "IslandCall$Step") ∈ lw_all := lw_g (lw_at lw_m1 21 rfl) rfl
theorem q825 : (Jvm.Cond.instanceMethod ({ cls := "IslandCall$Step", name := "<init>", desc := "()V" } : Jvm.MethodName)) ∈ lw_all := lw_g (lw_at lw_m3 205 rfl) rfl
theorem q826 : (Jvm.Cond.code ({ cls := "IslandCall$Step", name := "<init>", desc := "()V" } : Jvm.MethodName) prog_11_method_1_code (1 : Nat) (Option.none : Option Jvm.ClassFile.FieldType)) ∈ lw_all := lw_g (lw_at lw_m3 206 rfl) rfl
theorem q827 : (Jvm.Cond.methodLink "IslandCall$Step" (3 : Nat) ({ cls := "java/lang/Object", name := "<init>", desc := "()V" } : Jvm.MethodName)) ∈ lw_all := lw_g (lw_at lw_m3 207 rfl) rfl
theorem q1286 : (Jvm.Cond.fieldLinkNest "IslandCall$Step" (9 : Nat) "IslandCall$Living" "done" "I" "IslandCall") ∈ lw_tbl := lw_at lw_m5 186 rfl
theorem q1299 : (Jvm.Cond.fieldLinkNest "IslandCall$Step" (15 : Nat) "IslandCall$Living" "isOver" "Z" "IslandCall") ∈ lw_tbl := lw_at lw_m5 199 rfl
theorem q1300 : (Jvm.Cond.fieldLinkNest "IslandCall$Step" (19 : Nat) "IslandCall$Living" "isLeft" "Z" "IslandCall") ∈ lw_tbl := lw_at lw_m5 200 rfl
theorem q1328 : (Jvm.Cond.instanceMethod ({ cls := "IslandCall$Step", name := "go", desc := "(LIslandCall$Living;)V" } : Jvm.MethodName)) ∈ lw_all := lw_g (lw_at lw_m5 228 rfl) rfl
theorem q1329 : (Jvm.Cond.sameMethod "IslandCall$Step" "IslandCall$Step" "go" "(LIslandCall$Living;)V") ∈ lw_all := lw_g (lw_at lw_m5 229 rfl) rfl
theorem q1333 : (Jvm.Cond.code ({ cls := "IslandCall$Step", name := "go", desc := "(LIslandCall$Living;)V" } : Jvm.MethodName) prog_11_method_3_code (2 : Nat) (Option.none : Option Jvm.ClassFile.FieldType)) ∈ lw_all := lw_g (lw_at lw_m5 233 rfl) rfl
theorem q1334 : (Jvm.Cond.methodLink "IslandCall$Step" (22 : Nat) ({ cls := "IslandCall$Step", name := "does", desc := "(LIslandCall$Living;)V" } : Jvm.MethodName)) ∈ lw_all := lw_g (lw_at lw_m5 234 rfl) rfl
theorem q1335 : (Jvm.Cond.declares ({ cls := "IslandCall$Step", name := "does", desc := "(LIslandCall$Living;)V" } : Jvm.MethodName)) ∈ lw_tbl := lw_at lw_m5 235 rfl
theorem q1336 : (Jvm.Cond.sameMethod "IslandCall$Step" "IslandCall$Step" "does" "(LIslandCall$Living;)V") ∈ lw_all := lw_g (lw_at lw_m5 236 rfl) rfl

/-! IslandCall$Block -/
set_option maxRecDepth 100000
def RX9 : String := "IslandCall$Block"
abbrev cX9_init : ByteArray := prog_4_method_1_code
def yX9_init : MethodName := ⟨RX9, "<init>", "()V"⟩
def dkwX9_init_0 : List UInt8 := [42, 183, 0, 1, 42, 7, 189, 0, 2, 181, 0, 7, 177]
abbrev dktX9_init_0 : List UInt8 := dkwX9_init_0 ++ []
theorem dksX9_init_0 : cX9_init.data.toList.drop 0 = dktX9_init_0 := by decide +kernel
theorem dX9_init_0 : decode cX9_init 0 = .ok (.aload_n 0, 1) := dk_42 (dk_at dksX9_init_0 0 rfl rfl)
theorem dX9_init_1 : decode cX9_init 1 = .ok (.invokespecial 1, 3) := dk_183 0 1 (dk_at dksX9_init_0 1 rfl rfl)
theorem dX9_init_4 : decode cX9_init 4 = .ok (.aload_n 0, 1) := dk_42 (dk_at dksX9_init_0 4 rfl rfl)
theorem dX9_init_5 : decode cX9_init 5 = .ok (.iconst 4, 1) := dk_7 (dk_at dksX9_init_0 5 rfl rfl)
theorem dX9_init_6 : decode cX9_init 6 = .ok (.anewarray 2, 3) := dk_189 0 2 (dk_at dksX9_init_0 6 rfl rfl)
theorem dX9_init_9 : decode cX9_init 9 = .ok (.putfield 7, 3) := dk_181 0 7 (dk_at dksX9_init_0 9 rfl rfl)
theorem dX9_init_12 : decode cX9_init 12 = .ok (.return_, 1) := dk_177 (dk_at dksX9_init_0 12 rfl rfl)
abbrev cX9_add : ByteArray := prog_4_method_2_code
def yX9_add : MethodName := ⟨RX9, "add", "(LIslandCall$Step;)V"⟩
def dkwX9_add_2 : List UInt8 := [180, 0, 13, 43, 83, 42, 89, 180, 0, 13, 4, 96, 181, 0, 13, 177]
abbrev dktX9_add_2 : List UInt8 := dkwX9_add_2 ++ []
def dkwX9_add_1 : List UInt8 := [180, 0, 7, 3, 44, 3, 42, 180, 0, 13, 184, 0, 17, 42, 44, 181, 0, 7, 42, 180, 0, 7, 42]
abbrev dktX9_add_1 : List UInt8 := dkwX9_add_1 ++ dktX9_add_2
def dkwX9_add_0 : List UInt8 := [42, 180, 0, 13, 42, 180, 0, 7, 190, 160, 0, 32, 5, 42, 180, 0, 13, 104, 189, 0, 2, 77, 42]
abbrev dktX9_add_0 : List UInt8 := dkwX9_add_0 ++ dktX9_add_1
theorem dksX9_add_0 : cX9_add.data.toList.drop 0 = dktX9_add_0 := by decide +kernel
theorem dksX9_add_1 : cX9_add.data.toList.drop 23 = dktX9_add_1 := dk_seg dksX9_add_0 23 rfl rfl
theorem dksX9_add_2 : cX9_add.data.toList.drop 46 = dktX9_add_2 := dk_seg dksX9_add_1 23 rfl rfl
theorem dX9_add_0 : decode cX9_add 0 = .ok (.aload_n 0, 1) := dk_42 (dk_at dksX9_add_0 0 rfl rfl)
theorem dX9_add_1 : decode cX9_add 1 = .ok (.getfield 13, 3) := dk_180 0 13 (dk_at dksX9_add_0 1 rfl rfl)
theorem dX9_add_4 : decode cX9_add 4 = .ok (.aload_n 0, 1) := dk_42 (dk_at dksX9_add_0 4 rfl rfl)
theorem dX9_add_5 : decode cX9_add 5 = .ok (.getfield 7, 3) := dk_180 0 7 (dk_at dksX9_add_0 5 rfl rfl)
theorem dX9_add_8 : decode cX9_add 8 = .ok (.arraylength, 1) := dk_190 (dk_at dksX9_add_0 8 rfl rfl)
theorem dX9_add_9 : decode cX9_add 9 = .ok (.if_icmp .ne 32, 3) := dk_160 0 32 (dk_at dksX9_add_0 9 rfl rfl)
theorem dX9_add_12 : decode cX9_add 12 = .ok (.iconst 2, 1) := dk_5 (dk_at dksX9_add_0 12 rfl rfl)
theorem dX9_add_13 : decode cX9_add 13 = .ok (.aload_n 0, 1) := dk_42 (dk_at dksX9_add_0 13 rfl rfl)
theorem dX9_add_14 : decode cX9_add 14 = .ok (.getfield 13, 3) := dk_180 0 13 (dk_at dksX9_add_0 14 rfl rfl)
theorem dX9_add_17 : decode cX9_add 17 = .ok (.imul, 1) := dk_104 (dk_at dksX9_add_0 17 rfl rfl)
theorem dX9_add_18 : decode cX9_add 18 = .ok (.anewarray 2, 3) := dk_189 0 2 (dk_at dksX9_add_0 18 rfl rfl)
theorem dX9_add_21 : decode cX9_add 21 = .ok (.astore_n 2, 1) := dk_77 (dk_at dksX9_add_0 21 rfl rfl)
theorem dX9_add_22 : decode cX9_add 22 = .ok (.aload_n 0, 1) := dk_42 (dk_at dksX9_add_0 22 rfl rfl)
theorem dX9_add_23 : decode cX9_add 23 = .ok (.getfield 7, 3) := dk_180 0 7 (dk_at dksX9_add_1 0 rfl rfl)
theorem dX9_add_26 : decode cX9_add 26 = .ok (.iconst 0, 1) := dk_3 (dk_at dksX9_add_1 3 rfl rfl)
theorem dX9_add_27 : decode cX9_add 27 = .ok (.aload_n 2, 1) := dk_44 (dk_at dksX9_add_1 4 rfl rfl)
theorem dX9_add_28 : decode cX9_add 28 = .ok (.iconst 0, 1) := dk_3 (dk_at dksX9_add_1 5 rfl rfl)
theorem dX9_add_29 : decode cX9_add 29 = .ok (.aload_n 0, 1) := dk_42 (dk_at dksX9_add_1 6 rfl rfl)
theorem dX9_add_30 : decode cX9_add 30 = .ok (.getfield 13, 3) := dk_180 0 13 (dk_at dksX9_add_1 7 rfl rfl)
theorem dX9_add_33 : decode cX9_add 33 = .ok (.invokestatic 17, 3) := dk_184 0 17 (dk_at dksX9_add_1 10 rfl rfl)
theorem dX9_add_36 : decode cX9_add 36 = .ok (.aload_n 0, 1) := dk_42 (dk_at dksX9_add_1 13 rfl rfl)
theorem dX9_add_37 : decode cX9_add 37 = .ok (.aload_n 2, 1) := dk_44 (dk_at dksX9_add_1 14 rfl rfl)
theorem dX9_add_38 : decode cX9_add 38 = .ok (.putfield 7, 3) := dk_181 0 7 (dk_at dksX9_add_1 15 rfl rfl)
theorem dX9_add_41 : decode cX9_add 41 = .ok (.aload_n 0, 1) := dk_42 (dk_at dksX9_add_1 18 rfl rfl)
theorem dX9_add_42 : decode cX9_add 42 = .ok (.getfield 7, 3) := dk_180 0 7 (dk_at dksX9_add_1 19 rfl rfl)
theorem dX9_add_45 : decode cX9_add 45 = .ok (.aload_n 0, 1) := dk_42 (dk_at dksX9_add_1 22 rfl rfl)
theorem dX9_add_46 : decode cX9_add 46 = .ok (.getfield 13, 3) := dk_180 0 13 (dk_at dksX9_add_2 0 rfl rfl)
theorem dX9_add_49 : decode cX9_add 49 = .ok (.aload_n 1, 1) := dk_43 (dk_at dksX9_add_2 3 rfl rfl)
theorem dX9_add_50 : decode cX9_add 50 = .ok (.aastore, 1) := dk_83 (dk_at dksX9_add_2 4 rfl rfl)
theorem dX9_add_51 : decode cX9_add 51 = .ok (.aload_n 0, 1) := dk_42 (dk_at dksX9_add_2 5 rfl rfl)
theorem dX9_add_52 : decode cX9_add 52 = .ok (.dup, 1) := dk_89 (dk_at dksX9_add_2 6 rfl rfl)
theorem dX9_add_53 : decode cX9_add 53 = .ok (.getfield 13, 3) := dk_180 0 13 (dk_at dksX9_add_2 7 rfl rfl)
theorem dX9_add_56 : decode cX9_add 56 = .ok (.iconst 1, 1) := dk_4 (dk_at dksX9_add_2 10 rfl rfl)
theorem dX9_add_57 : decode cX9_add 57 = .ok (.iadd, 1) := dk_96 (dk_at dksX9_add_2 11 rfl rfl)
theorem dX9_add_58 : decode cX9_add 58 = .ok (.putfield 13, 3) := dk_181 0 13 (dk_at dksX9_add_2 12 rfl rfl)
theorem dX9_add_61 : decode cX9_add 61 = .ok (.return_, 1) := dk_177 (dk_at dksX9_add_2 15 rfl rfl)
abbrev cX9_all : ByteArray := prog_4_method_3_code
def yX9_all : MethodName := ⟨RX9, "all", "(LIslandCall$Living;)V"⟩
def dkwX9_all_1 : List UInt8 := [182, 0, 29, 132, 2, 1, 167, 255, 228, 177]
abbrev dktX9_all_1 : List UInt8 := dkwX9_all_1 ++ []
def dkwX9_all_0 : List UInt8 := [3, 61, 28, 42, 180, 0, 13, 162, 0, 26, 43, 180, 0, 23, 154, 0, 19, 42, 180, 0, 7, 28, 50, 43]
abbrev dktX9_all_0 : List UInt8 := dkwX9_all_0 ++ dktX9_all_1
theorem dksX9_all_0 : cX9_all.data.toList.drop 0 = dktX9_all_0 := by decide +kernel
theorem dksX9_all_1 : cX9_all.data.toList.drop 24 = dktX9_all_1 := dk_seg dksX9_all_0 24 rfl rfl
theorem dX9_all_0 : decode cX9_all 0 = .ok (.iconst 0, 1) := dk_3 (dk_at dksX9_all_0 0 rfl rfl)
theorem dX9_all_1 : decode cX9_all 1 = .ok (.istore_n 2, 1) := dk_61 (dk_at dksX9_all_0 1 rfl rfl)
theorem dX9_all_2 : decode cX9_all 2 = .ok (.iload_n 2, 1) := dk_28 (dk_at dksX9_all_0 2 rfl rfl)
theorem dX9_all_3 : decode cX9_all 3 = .ok (.aload_n 0, 1) := dk_42 (dk_at dksX9_all_0 3 rfl rfl)
theorem dX9_all_4 : decode cX9_all 4 = .ok (.getfield 13, 3) := dk_180 0 13 (dk_at dksX9_all_0 4 rfl rfl)
theorem dX9_all_7 : decode cX9_all 7 = .ok (.if_icmp .ge 26, 3) := dk_162 0 26 (dk_at dksX9_all_0 7 rfl rfl)
theorem dX9_all_10 : decode cX9_all 10 = .ok (.aload_n 1, 1) := dk_43 (dk_at dksX9_all_0 10 rfl rfl)
theorem dX9_all_11 : decode cX9_all 11 = .ok (.getfield 23, 3) := dk_180 0 23 (dk_at dksX9_all_0 11 rfl rfl)
theorem dX9_all_14 : decode cX9_all 14 = .ok (.ifCond .ne 19, 3) := dk_154 0 19 (dk_at dksX9_all_0 14 rfl rfl)
theorem dX9_all_17 : decode cX9_all 17 = .ok (.aload_n 0, 1) := dk_42 (dk_at dksX9_all_0 17 rfl rfl)
theorem dX9_all_18 : decode cX9_all 18 = .ok (.getfield 7, 3) := dk_180 0 7 (dk_at dksX9_all_0 18 rfl rfl)
theorem dX9_all_21 : decode cX9_all 21 = .ok (.iload_n 2, 1) := dk_28 (dk_at dksX9_all_0 21 rfl rfl)
theorem dX9_all_22 : decode cX9_all 22 = .ok (.aaload, 1) := dk_50 (dk_at dksX9_all_0 22 rfl rfl)
theorem dX9_all_23 : decode cX9_all 23 = .ok (.aload_n 1, 1) := dk_43 (dk_at dksX9_all_0 23 rfl rfl)
theorem dX9_all_24 : decode cX9_all 24 = .ok (.invokevirtual 29, 3) := dk_182 0 29 (dk_at dksX9_all_1 0 rfl rfl)
theorem dX9_all_27 : decode cX9_all 27 = .ok (.iinc 2 1, 3) := dk_132 2 1 (dk_at dksX9_all_1 3 rfl rfl)
theorem dX9_all_30 : decode cX9_all 30 = .ok (.goto (-28), 3) := dk_167 255 228 (dk_at dksX9_all_1 6 rfl rfl)
theorem dX9_all_33 : decode cX9_all 33 = .ok (.return_, 1) := dk_177 (dk_at dksX9_all_1 9 rfl rfl)
theorem q162 : (Jvm.Cond.initialized "IslandCall$Block") ∈ lw_all := lw_g (lw_at lw_m1 22 rfl) rfl
theorem q822 : (Jvm.Cond.instanceMethod ({ cls := "IslandCall$Block", name := "<init>", desc := "()V" } : Jvm.MethodName)) ∈ lw_all := lw_g (lw_at lw_m3 202 rfl) rfl
theorem q823 : (Jvm.Cond.code ({ cls := "IslandCall$Block", name := "<init>", desc := "()V" } : Jvm.MethodName) prog_4_method_1_code (1 : Nat) (Option.none : Option Jvm.ClassFile.FieldType)) ∈ lw_all := lw_g (lw_at lw_m3 203 rfl) rfl
theorem q824 : (Jvm.Cond.methodLinkNest "IslandCall$Block" (1 : Nat) ({ cls := "IslandCall$Step", name := "<init>", desc := "()V" } : Jvm.MethodName) "IslandCall") ∈ lw_tbl := lw_at lw_m3 204 rfl
theorem q828 : (Jvm.Cond.classLink "IslandCall$Block" (2 : Nat) "IslandCall$Step") ∈ lw_all := lw_g (lw_at lw_m3 208 rfl) rfl
theorem q831 : (Jvm.Cond.fieldLink "IslandCall$Block" (7 : Nat) "IslandCall$Block" "steps" "[LIslandCall$Step;") ∈ lw_all := lw_g (lw_at lw_m3 211 rfl) rfl
theorem q832 : (Jvm.Cond.fieldLink "IslandCall$Block" (13 : Nat) "IslandCall$Block" "size" "I") ∈ lw_all := lw_g (lw_at lw_m3 212 rfl) rfl
theorem q836 : (Jvm.Cond.soleField "IslandCall$Block" "steps") ∈ lw_all := lw_g (lw_at lw_m3 216 rfl) rfl
theorem q838 : (Jvm.Cond.soleField "IslandCall$Block" "size") ∈ lw_all := lw_g (lw_at lw_m3 218 rfl) rfl
theorem q904 : (Jvm.Cond.instanceMethod ({ cls := "IslandCall$Block", name := "add", desc := "(LIslandCall$Step;)V" } : Jvm.MethodName)) ∈ lw_all := lw_g (lw_at lw_m4 44 rfl) rfl
theorem q905 : (Jvm.Cond.sameMethod "IslandCall$Block" "IslandCall$Block" "add" "(LIslandCall$Step;)V") ∈ lw_all := lw_g (lw_at lw_m4 45 rfl) rfl
theorem q908 : (Jvm.Cond.code ({ cls := "IslandCall$Block", name := "add", desc := "(LIslandCall$Step;)V" } : Jvm.MethodName) prog_4_method_2_code (3 : Nat) (Option.none : Option Jvm.ClassFile.FieldType)) ∈ lw_all := lw_g (lw_at lw_m4 48 rfl) rfl
theorem q909 : (Jvm.Cond.methodLink "IslandCall$Block" (17 : Nat) ({ cls := "java/lang/System", name := "arraycopy", desc := "(Ljava/lang/Object;ILjava/lang/Object;II)V" } : Jvm.MethodName)) ∈ lw_all := lw_g (lw_at lw_m4 49 rfl) rfl
theorem q1298 : (Jvm.Cond.fieldLinkNest "IslandCall$Block" (23 : Nat) "IslandCall$Living" "isOver" "Z" "IslandCall") ∈ lw_tbl := lw_at lw_m5 198 rfl
theorem q1323 : (Jvm.Cond.declares ({ cls := "IslandCall$Block", name := "all", desc := "(LIslandCall$Living;)V" } : Jvm.MethodName)) ∈ lw_tbl := lw_at lw_m5 223 rfl
theorem q1325 : (Jvm.Cond.instanceMethod ({ cls := "IslandCall$Block", name := "all", desc := "(LIslandCall$Living;)V" } : Jvm.MethodName)) ∈ lw_all := lw_g (lw_at lw_m5 225 rfl) rfl
theorem q1326 : (Jvm.Cond.code ({ cls := "IslandCall$Block", name := "all", desc := "(LIslandCall$Living;)V" } : Jvm.MethodName) prog_4_method_3_code (3 : Nat) (Option.none : Option Jvm.ClassFile.FieldType)) ∈ lw_all := lw_g (lw_at lw_m5 226 rfl) rfl
theorem q1327 : (Jvm.Cond.methodLink "IslandCall$Block" (29 : Nat) ({ cls := "IslandCall$Step", name := "go", desc := "(LIslandCall$Living;)V" } : Jvm.MethodName)) ∈ lw_all := lw_g (lw_at lw_m5 227 rfl) rfl

/-! IslandCall$Loop -/
set_option maxRecDepth 100000
def RX10 : String := "IslandCall$Loop"
def TX10 : u_T := fun k => match k with
  | 0 => ("IslandCall$Block", "steps", "[LIslandCall$Step;", false)
  | 1 => ("IslandCall$Block", "size", "I", false)
  | _ => ("IslandCall$Loop", "times", "I", true)
def tyX10 : Nat → FieldType := fun k => match k with
  | 0 => .array (.object "IslandCall$Step")
  | 1 => .int
  | _ => .int
abbrev wsX100 : List Cond := u_ws RX10 TX10 3
theorem nmX10 : ∀ a, a < 3 → ∀ b, b < 3 → a ≠ b → (TX10 a).2.1 ≠ (TX10 b).2.1 := by decide +kernel
theorem tyX10_ok : ∀ k, k < 3 → parseFieldDescriptor (TX10 k).2.2.1 = some (tyX10 k) := by decide +kernel
abbrev cX10_init : ByteArray := prog_8_method_1_code
def yX10_init : MethodName := ⟨RX10, "<init>", "(I)V"⟩
def dkwX10_init_0 : List UInt8 := [42, 183, 0, 1, 42, 27, 181, 0, 7, 177]
abbrev dktX10_init_0 : List UInt8 := dkwX10_init_0 ++ []
theorem dksX10_init_0 : cX10_init.data.toList.drop 0 = dktX10_init_0 := by decide +kernel
theorem dX10_init_0 : decode cX10_init 0 = .ok (.aload_n 0, 1) := dk_42 (dk_at dksX10_init_0 0 rfl rfl)
theorem dX10_init_1 : decode cX10_init 1 = .ok (.invokespecial 1, 3) := dk_183 0 1 (dk_at dksX10_init_0 1 rfl rfl)
theorem dX10_init_4 : decode cX10_init 4 = .ok (.aload_n 0, 1) := dk_42 (dk_at dksX10_init_0 4 rfl rfl)
theorem dX10_init_5 : decode cX10_init 5 = .ok (.iload_n 1, 1) := dk_27 (dk_at dksX10_init_0 5 rfl rfl)
theorem dX10_init_6 : decode cX10_init 6 = .ok (.putfield 7, 3) := dk_181 0 7 (dk_at dksX10_init_0 6 rfl rfl)
theorem dX10_init_9 : decode cX10_init 9 = .ok (.return_, 1) := dk_177 (dk_at dksX10_init_0 9 rfl rfl)
abbrev cX10_does : ByteArray := prog_8_method_2_code
def yX10_does : MethodName := ⟨RX10, "does", "(LIslandCall$Living;)V"⟩
def dkwX10_does_1 : List UInt8 := [132, 2, 1, 167, 255, 233, 177]
abbrev dktX10_does_1 : List UInt8 := dkwX10_does_1 ++ []
def dkwX10_does_0 : List UInt8 := [3, 61, 28, 42, 180, 0, 7, 162, 0, 21, 43, 180, 0, 13, 154, 0, 14, 42, 43, 182, 0, 19]
abbrev dktX10_does_0 : List UInt8 := dkwX10_does_0 ++ dktX10_does_1
theorem dksX10_does_0 : cX10_does.data.toList.drop 0 = dktX10_does_0 := by decide +kernel
theorem dksX10_does_1 : cX10_does.data.toList.drop 22 = dktX10_does_1 := dk_seg dksX10_does_0 22 rfl rfl
theorem dX10_does_0 : decode cX10_does 0 = .ok (.iconst 0, 1) := dk_3 (dk_at dksX10_does_0 0 rfl rfl)
theorem dX10_does_1 : decode cX10_does 1 = .ok (.istore_n 2, 1) := dk_61 (dk_at dksX10_does_0 1 rfl rfl)
theorem dX10_does_2 : decode cX10_does 2 = .ok (.iload_n 2, 1) := dk_28 (dk_at dksX10_does_0 2 rfl rfl)
theorem dX10_does_3 : decode cX10_does 3 = .ok (.aload_n 0, 1) := dk_42 (dk_at dksX10_does_0 3 rfl rfl)
theorem dX10_does_4 : decode cX10_does 4 = .ok (.getfield 7, 3) := dk_180 0 7 (dk_at dksX10_does_0 4 rfl rfl)
theorem dX10_does_7 : decode cX10_does 7 = .ok (.if_icmp .ge 21, 3) := dk_162 0 21 (dk_at dksX10_does_0 7 rfl rfl)
theorem dX10_does_10 : decode cX10_does 10 = .ok (.aload_n 1, 1) := dk_43 (dk_at dksX10_does_0 10 rfl rfl)
theorem dX10_does_11 : decode cX10_does 11 = .ok (.getfield 13, 3) := dk_180 0 13 (dk_at dksX10_does_0 11 rfl rfl)
theorem dX10_does_14 : decode cX10_does 14 = .ok (.ifCond .ne 14, 3) := dk_154 0 14 (dk_at dksX10_does_0 14 rfl rfl)
theorem dX10_does_17 : decode cX10_does 17 = .ok (.aload_n 0, 1) := dk_42 (dk_at dksX10_does_0 17 rfl rfl)
theorem dX10_does_18 : decode cX10_does 18 = .ok (.aload_n 1, 1) := dk_43 (dk_at dksX10_does_0 18 rfl rfl)
theorem dX10_does_19 : decode cX10_does 19 = .ok (.invokevirtual 19, 3) := dk_182 0 19 (dk_at dksX10_does_0 19 rfl rfl)
theorem dX10_does_22 : decode cX10_does 22 = .ok (.iinc 2 1, 3) := dk_132 2 1 (dk_at dksX10_does_1 0 rfl rfl)
theorem dX10_does_25 : decode cX10_does 25 = .ok (.goto (-23), 3) := dk_167 255 233 (dk_at dksX10_does_1 3 rfl rfl)
theorem dX10_does_28 : decode cX10_does 28 = .ok (.return_, 1) := dk_177 (dk_at dksX10_does_1 6 rfl rfl)
theorem q163 : (Jvm.Cond.initialized "IslandCall$Loop") ∈ lw_all := lw_g (lw_at lw_m1 23 rfl) rfl
theorem q817 : (Jvm.Cond.instantiable "IslandCall$Loop" (3 : Nat)) ∈ lw_all := lw_g (lw_at lw_m3 197 rfl) rfl
theorem q819 : (Jvm.Cond.instanceMethod ({ cls := "IslandCall$Loop", name := "<init>", desc := "(I)V" } : Jvm.MethodName)) ∈ lw_all := lw_g (lw_at lw_m3 199 rfl) rfl
theorem q820 : (Jvm.Cond.code ({ cls := "IslandCall$Loop", name := "<init>", desc := "(I)V" } : Jvm.MethodName) prog_8_method_1_code (2 : Nat) (Option.none : Option Jvm.ClassFile.FieldType)) ∈ lw_all := lw_g (lw_at lw_m3 200 rfl) rfl
theorem q821 : (Jvm.Cond.methodLinkNest "IslandCall$Loop" (1 : Nat) ({ cls := "IslandCall$Block", name := "<init>", desc := "()V" } : Jvm.MethodName) "IslandCall") ∈ lw_tbl := lw_at lw_m3 201 rfl
theorem q830 : (Jvm.Cond.fieldLink "IslandCall$Loop" (7 : Nat) "IslandCall$Loop" "times" "I") ∈ lw_all := lw_g (lw_at lw_m3 210 rfl) rfl
theorem q833 : (Jvm.Cond.laysFinal "IslandCall$Loop" "IslandCall$Loop" "times" "I") ∈ lw_all := lw_g (lw_at lw_m3 213 rfl) rfl
theorem q834 : (Jvm.Cond.soleField "IslandCall$Loop" "times") ∈ lw_all := lw_g (lw_at lw_m3 214 rfl) rfl
theorem q835 : (Jvm.Cond.lays "IslandCall$Loop" "IslandCall$Block" "steps" "[LIslandCall$Step;") ∈ lw_all := lw_g (lw_at lw_m3 215 rfl) rfl
theorem q837 : (Jvm.Cond.lays "IslandCall$Loop" "IslandCall$Block" "size" "I") ∈ lw_all := lw_g (lw_at lw_m3 217 rfl) rfl
theorem q839 : (Jvm.Cond.superclass "IslandCall$Loop" "IslandCall$Block") ∈ lw_all := lw_g (lw_at lw_m3 219 rfl) rfl
theorem q906 : (Jvm.Cond.selects "IslandCall$Loop" ({ cls := "IslandCall$Block", name := "add", desc := "(LIslandCall$Step;)V" } : Jvm.MethodName) ({ cls := "IslandCall$Block", name := "add", desc := "(LIslandCall$Step;)V" } : Jvm.MethodName)) ∈ lw_all := lw_g (lw_at lw_m4 46 rfl) rfl
theorem q1296 : (Jvm.Cond.fieldLinkNest "IslandCall$Loop" (13 : Nat) "IslandCall$Living" "isOver" "Z" "IslandCall") ∈ lw_tbl := lw_at lw_m5 196 rfl
theorem q1322 : (Jvm.Cond.sameMethod "IslandCall$Loop" "IslandCall$Block" "all" "(LIslandCall$Living;)V") ∈ lw_all := lw_g (lw_at lw_m5 222 rfl) rfl
theorem q1324 : (Jvm.Cond.selects "IslandCall$Loop" ({ cls := "IslandCall$Loop", name := "all", desc := "(LIslandCall$Living;)V" } : Jvm.MethodName) ({ cls := "IslandCall$Block", name := "all", desc := "(LIslandCall$Living;)V" } : Jvm.MethodName)) ∈ lw_all := lw_g (lw_at lw_m5 224 rfl) rfl
theorem q1331 : (Jvm.Cond.selects "IslandCall$Loop" ({ cls := "IslandCall$Step", name := "go", desc := "(LIslandCall$Living;)V" } : Jvm.MethodName) ({ cls := "IslandCall$Step", name := "go", desc := "(LIslandCall$Living;)V" } : Jvm.MethodName)) ∈ lw_all := lw_g (lw_at lw_m5 231 rfl) rfl
theorem q1367 : (Jvm.Cond.selects "IslandCall$Loop" ({ cls := "IslandCall$Step", name := "does", desc := "(LIslandCall$Living;)V" } : Jvm.MethodName) ({ cls := "IslandCall$Loop", name := "does", desc := "(LIslandCall$Living;)V" } : Jvm.MethodName)) ∈ lw_all := lw_g (lw_at lw_m6 27 rfl) rfl
theorem q1368 : (Jvm.Cond.instanceMethod ({ cls := "IslandCall$Loop", name := "does", desc := "(LIslandCall$Living;)V" } : Jvm.MethodName)) ∈ lw_all := lw_g (lw_at lw_m6 28 rfl) rfl
theorem q1369 : (Jvm.Cond.code ({ cls := "IslandCall$Loop", name := "does", desc := "(LIslandCall$Living;)V" } : Jvm.MethodName) prog_8_method_2_code (3 : Nat) (Option.none : Option Jvm.ClassFile.FieldType)) ∈ lw_all := lw_g (lw_at lw_m6 29 rfl) rfl
theorem q1370 : (Jvm.Cond.methodLink "IslandCall$Loop" (19 : Nat) ({ cls := "IslandCall$Loop", name := "all", desc := "(LIslandCall$Living;)V" } : Jvm.MethodName)) ∈ lw_all := lw_g (lw_at lw_m6 30 rfl) rfl
theorem q2114 : (Jvm.Cond.castable "IslandCall$Loop" "IslandCall$Step") ∈ lw_tbl := lw_at lw_m9 54 rfl
theorem in_X10 : ∀ w ∈ wsX100, w ∈ lw_all := lw_in wsX100 [835, 837, 833] (by decide +kernel) (by decide +kernel)

/-! IslandCall$When -/
set_option maxRecDepth 100000
def RX11 : String := "IslandCall$When"
def TX11 : u_T := fun k => match k with
  | 0 => ("IslandCall$Block", "steps", "[LIslandCall$Step;", false)
  | 1 => ("IslandCall$Block", "size", "I", false)
  | 2 => ("IslandCall$When", "what", "I", true)
  | 3 => ("IslandCall$When", "one", "I", true)
  | 4 => ("IslandCall$When", "sign", "I", true)
  | _ => ("IslandCall$When", "number", "I", true)
def tyX11 : Nat → FieldType := fun k => match k with
  | 0 => .array (.object "IslandCall$Step")
  | 1 => .int
  | 2 => .int
  | 3 => .int
  | 4 => .int
  | _ => .int
abbrev wsX110 : List Cond := u_ws RX11 TX11 6
theorem nmX11 : ∀ a, a < 6 → ∀ b, b < 6 → a ≠ b → (TX11 a).2.1 ≠ (TX11 b).2.1 := by decide +kernel
theorem tyX11_ok : ∀ k, k < 6 → parseFieldDescriptor (TX11 k).2.2.1 = some (tyX11 k) := by decide +kernel
abbrev cX11_init : ByteArray := prog_13_method_1_code
def yX11_init : MethodName := ⟨RX11, "<init>", "(IIII)V"⟩
def dkwX11_init_1 : List UInt8 := [181, 0, 21, 177]
abbrev dktX11_init_1 : List UInt8 := dkwX11_init_1 ++ []
def dkwX11_init_0 : List UInt8 := [42, 183, 0, 3, 42, 27, 181, 0, 9, 42, 28, 181, 0, 15, 42, 29, 181, 0, 18, 42, 21, 4]
abbrev dktX11_init_0 : List UInt8 := dkwX11_init_0 ++ dktX11_init_1
theorem dksX11_init_0 : cX11_init.data.toList.drop 0 = dktX11_init_0 := by decide +kernel
theorem dksX11_init_1 : cX11_init.data.toList.drop 22 = dktX11_init_1 := dk_seg dksX11_init_0 22 rfl rfl
theorem dX11_init_0 : decode cX11_init 0 = .ok (.aload_n 0, 1) := dk_42 (dk_at dksX11_init_0 0 rfl rfl)
theorem dX11_init_1 : decode cX11_init 1 = .ok (.invokespecial 3, 3) := dk_183 0 3 (dk_at dksX11_init_0 1 rfl rfl)
theorem dX11_init_4 : decode cX11_init 4 = .ok (.aload_n 0, 1) := dk_42 (dk_at dksX11_init_0 4 rfl rfl)
theorem dX11_init_5 : decode cX11_init 5 = .ok (.iload_n 1, 1) := dk_27 (dk_at dksX11_init_0 5 rfl rfl)
theorem dX11_init_6 : decode cX11_init 6 = .ok (.putfield 9, 3) := dk_181 0 9 (dk_at dksX11_init_0 6 rfl rfl)
theorem dX11_init_9 : decode cX11_init 9 = .ok (.aload_n 0, 1) := dk_42 (dk_at dksX11_init_0 9 rfl rfl)
theorem dX11_init_10 : decode cX11_init 10 = .ok (.iload_n 2, 1) := dk_28 (dk_at dksX11_init_0 10 rfl rfl)
theorem dX11_init_11 : decode cX11_init 11 = .ok (.putfield 15, 3) := dk_181 0 15 (dk_at dksX11_init_0 11 rfl rfl)
theorem dX11_init_14 : decode cX11_init 14 = .ok (.aload_n 0, 1) := dk_42 (dk_at dksX11_init_0 14 rfl rfl)
theorem dX11_init_15 : decode cX11_init 15 = .ok (.iload_n 3, 1) := dk_29 (dk_at dksX11_init_0 15 rfl rfl)
theorem dX11_init_16 : decode cX11_init 16 = .ok (.putfield 18, 3) := dk_181 0 18 (dk_at dksX11_init_0 16 rfl rfl)
theorem dX11_init_19 : decode cX11_init 19 = .ok (.aload_n 0, 1) := dk_42 (dk_at dksX11_init_0 19 rfl rfl)
theorem dX11_init_20 : decode cX11_init 20 = .ok (.iload 4, 2) := dk_21 4 (dk_at dksX11_init_0 20 rfl rfl)
theorem dX11_init_22 : decode cX11_init 22 = .ok (.putfield 21, 3) := dk_181 0 21 (dk_at dksX11_init_1 0 rfl rfl)
theorem dX11_init_25 : decode cX11_init 25 = .ok (.return_, 1) := dk_177 (dk_at dksX11_init_1 3 rfl rfl)
abbrev cX11_does : ByteArray := prog_13_method_3_code
def yX11_does : MethodName := ⟨RX11, "does", "(LIslandCall$Living;)V"⟩
def dkwX11_does_0 : List UInt8 := [42, 43, 180, 0, 40, 182, 0, 46, 153, 0, 8, 42, 43, 182, 0, 50, 177]
abbrev dktX11_does_0 : List UInt8 := dkwX11_does_0 ++ []
theorem dksX11_does_0 : cX11_does.data.toList.drop 0 = dktX11_does_0 := by decide +kernel
theorem dX11_does_0 : decode cX11_does 0 = .ok (.aload_n 0, 1) := dk_42 (dk_at dksX11_does_0 0 rfl rfl)
theorem dX11_does_1 : decode cX11_does 1 = .ok (.aload_n 1, 1) := dk_43 (dk_at dksX11_does_0 1 rfl rfl)
theorem dX11_does_2 : decode cX11_does 2 = .ok (.getfield 40, 3) := dk_180 0 40 (dk_at dksX11_does_0 2 rfl rfl)
theorem dX11_does_5 : decode cX11_does 5 = .ok (.invokevirtual 46, 3) := dk_182 0 46 (dk_at dksX11_does_0 5 rfl rfl)
theorem dX11_does_8 : decode cX11_does 8 = .ok (.ifCond .eq 8, 3) := dk_153 0 8 (dk_at dksX11_does_0 8 rfl rfl)
theorem dX11_does_11 : decode cX11_does 11 = .ok (.aload_n 0, 1) := dk_42 (dk_at dksX11_does_0 11 rfl rfl)
theorem dX11_does_12 : decode cX11_does 12 = .ok (.aload_n 1, 1) := dk_43 (dk_at dksX11_does_0 12 rfl rfl)
theorem dX11_does_13 : decode cX11_does 13 = .ok (.invokevirtual 50, 3) := dk_182 0 50 (dk_at dksX11_does_0 13 rfl rfl)
theorem dX11_does_16 : decode cX11_does 16 = .ok (.return_, 1) := dk_177 (dk_at dksX11_does_0 16 rfl rfl)
abbrev cX11_is : ByteArray := prog_13_method_2_code
def yX11_is : MethodName := ⟨RX11, "is", "(LIslandCall$Boat;)Z"⟩
def dkwX11_is_5 : List UInt8 := [167, 0, 4, 3, 172]
abbrev dktX11_is_5 : List UInt8 := dkwX11_is_5 ++ []
def dkwX11_is_4 : List UInt8 := [42, 180, 0, 21, 164, 0, 7, 4, 167, 0, 20, 3, 167, 0, 16, 28, 42, 180, 0, 21, 160, 0, 7, 4]
abbrev dktX11_is_4 : List UInt8 := dkwX11_is_4 ++ dktX11_is_5
def dkwX11_is_3 : List UInt8 := [180, 0, 21, 162, 0, 7, 4, 167, 0, 45, 3, 167, 0, 41, 42, 180, 0, 18, 16, 62, 160, 0, 19, 28]
abbrev dktX11_is_3 : List UInt8 := dkwX11_is_3 ++ dktX11_is_4
def dkwX11_is_2 : List UInt8 := [172, 43, 180, 0, 36, 42, 180, 0, 15, 46, 61, 42, 180, 0, 18, 16, 60, 160, 0, 19, 28, 42]
abbrev dktX11_is_2 : List UInt8 := dkwX11_is_2 ++ dktX11_is_3
def dkwX11_is_1 : List UInt8 := [167, 0, 4, 3, 172, 42, 180, 0, 9, 4, 160, 0, 15, 43, 180, 0, 33, 42, 180, 0, 15, 184, 0, 29]
abbrev dktX11_is_1 : List UInt8 := dkwX11_is_1 ++ dktX11_is_2
def dkwX11_is_0 : List UInt8 := [42, 180, 0, 9, 154, 0, 23, 43, 180, 0, 24, 42, 180, 0, 15, 184, 0, 29, 154, 0, 7, 4]
abbrev dktX11_is_0 : List UInt8 := dkwX11_is_0 ++ dktX11_is_1
theorem dksX11_is_0 : cX11_is.data.toList.drop 0 = dktX11_is_0 := by decide +kernel
theorem dksX11_is_1 : cX11_is.data.toList.drop 22 = dktX11_is_1 := dk_seg dksX11_is_0 22 rfl rfl
theorem dksX11_is_2 : cX11_is.data.toList.drop 46 = dktX11_is_2 := dk_seg dksX11_is_1 24 rfl rfl
theorem dksX11_is_3 : cX11_is.data.toList.drop 68 = dktX11_is_3 := dk_seg dksX11_is_2 22 rfl rfl
theorem dksX11_is_4 : cX11_is.data.toList.drop 92 = dktX11_is_4 := dk_seg dksX11_is_3 24 rfl rfl
theorem dksX11_is_5 : cX11_is.data.toList.drop 116 = dktX11_is_5 := dk_seg dksX11_is_4 24 rfl rfl
theorem dX11_is_0 : decode cX11_is 0 = .ok (.aload_n 0, 1) := dk_42 (dk_at dksX11_is_0 0 rfl rfl)
theorem dX11_is_1 : decode cX11_is 1 = .ok (.getfield 9, 3) := dk_180 0 9 (dk_at dksX11_is_0 1 rfl rfl)
theorem dX11_is_4 : decode cX11_is 4 = .ok (.ifCond .ne 23, 3) := dk_154 0 23 (dk_at dksX11_is_0 4 rfl rfl)
theorem dX11_is_7 : decode cX11_is 7 = .ok (.aload_n 1, 1) := dk_43 (dk_at dksX11_is_0 7 rfl rfl)
theorem dX11_is_8 : decode cX11_is 8 = .ok (.getfield 24, 3) := dk_180 0 24 (dk_at dksX11_is_0 8 rfl rfl)
theorem dX11_is_11 : decode cX11_is 11 = .ok (.aload_n 0, 1) := dk_42 (dk_at dksX11_is_0 11 rfl rfl)
theorem dX11_is_12 : decode cX11_is 12 = .ok (.getfield 15, 3) := dk_180 0 15 (dk_at dksX11_is_0 12 rfl rfl)
theorem dX11_is_15 : decode cX11_is 15 = .ok (.invokestatic 29, 3) := dk_184 0 29 (dk_at dksX11_is_0 15 rfl rfl)
theorem dX11_is_18 : decode cX11_is 18 = .ok (.ifCond .ne 7, 3) := dk_154 0 7 (dk_at dksX11_is_0 18 rfl rfl)
theorem dX11_is_21 : decode cX11_is 21 = .ok (.iconst 1, 1) := dk_4 (dk_at dksX11_is_0 21 rfl rfl)
theorem dX11_is_22 : decode cX11_is 22 = .ok (.goto 4, 3) := dk_167 0 4 (dk_at dksX11_is_1 0 rfl rfl)
theorem dX11_is_25 : decode cX11_is 25 = .ok (.iconst 0, 1) := dk_3 (dk_at dksX11_is_1 3 rfl rfl)
theorem dX11_is_26 : decode cX11_is 26 = .ok (.ireturn, 1) := dk_172 (dk_at dksX11_is_1 4 rfl rfl)
theorem dX11_is_27 : decode cX11_is 27 = .ok (.aload_n 0, 1) := dk_42 (dk_at dksX11_is_1 5 rfl rfl)
theorem dX11_is_28 : decode cX11_is 28 = .ok (.getfield 9, 3) := dk_180 0 9 (dk_at dksX11_is_1 6 rfl rfl)
theorem dX11_is_31 : decode cX11_is 31 = .ok (.iconst 1, 1) := dk_4 (dk_at dksX11_is_1 9 rfl rfl)
theorem dX11_is_32 : decode cX11_is 32 = .ok (.if_icmp .ne 15, 3) := dk_160 0 15 (dk_at dksX11_is_1 10 rfl rfl)
theorem dX11_is_35 : decode cX11_is 35 = .ok (.aload_n 1, 1) := dk_43 (dk_at dksX11_is_1 13 rfl rfl)
theorem dX11_is_36 : decode cX11_is 36 = .ok (.getfield 33, 3) := dk_180 0 33 (dk_at dksX11_is_1 14 rfl rfl)
theorem dX11_is_39 : decode cX11_is 39 = .ok (.aload_n 0, 1) := dk_42 (dk_at dksX11_is_1 17 rfl rfl)
theorem dX11_is_40 : decode cX11_is 40 = .ok (.getfield 15, 3) := dk_180 0 15 (dk_at dksX11_is_1 18 rfl rfl)
theorem dX11_is_43 : decode cX11_is 43 = .ok (.invokestatic 29, 3) := dk_184 0 29 (dk_at dksX11_is_1 21 rfl rfl)
theorem dX11_is_46 : decode cX11_is 46 = .ok (.ireturn, 1) := dk_172 (dk_at dksX11_is_2 0 rfl rfl)
theorem dX11_is_47 : decode cX11_is 47 = .ok (.aload_n 1, 1) := dk_43 (dk_at dksX11_is_2 1 rfl rfl)
theorem dX11_is_48 : decode cX11_is 48 = .ok (.getfield 36, 3) := dk_180 0 36 (dk_at dksX11_is_2 2 rfl rfl)
theorem dX11_is_51 : decode cX11_is 51 = .ok (.aload_n 0, 1) := dk_42 (dk_at dksX11_is_2 5 rfl rfl)
theorem dX11_is_52 : decode cX11_is 52 = .ok (.getfield 15, 3) := dk_180 0 15 (dk_at dksX11_is_2 6 rfl rfl)
theorem dX11_is_55 : decode cX11_is 55 = .ok (.iaload, 1) := dk_46 (dk_at dksX11_is_2 9 rfl rfl)
theorem dX11_is_56 : decode cX11_is 56 = .ok (.istore_n 2, 1) := dk_61 (dk_at dksX11_is_2 10 rfl rfl)
theorem dX11_is_57 : decode cX11_is 57 = .ok (.aload_n 0, 1) := dk_42 (dk_at dksX11_is_2 11 rfl rfl)
theorem dX11_is_58 : decode cX11_is 58 = .ok (.getfield 18, 3) := dk_180 0 18 (dk_at dksX11_is_2 12 rfl rfl)
theorem dX11_is_61 : decode cX11_is 61 = .ok (.bipush 60, 2) := dk_16 60 (dk_at dksX11_is_2 15 rfl rfl)
theorem dX11_is_63 : decode cX11_is 63 = .ok (.if_icmp .ne 19, 3) := dk_160 0 19 (dk_at dksX11_is_2 17 rfl rfl)
theorem dX11_is_66 : decode cX11_is 66 = .ok (.iload_n 2, 1) := dk_28 (dk_at dksX11_is_2 20 rfl rfl)
theorem dX11_is_67 : decode cX11_is 67 = .ok (.aload_n 0, 1) := dk_42 (dk_at dksX11_is_2 21 rfl rfl)
theorem dX11_is_68 : decode cX11_is 68 = .ok (.getfield 21, 3) := dk_180 0 21 (dk_at dksX11_is_3 0 rfl rfl)
theorem dX11_is_71 : decode cX11_is 71 = .ok (.if_icmp .ge 7, 3) := dk_162 0 7 (dk_at dksX11_is_3 3 rfl rfl)
theorem dX11_is_74 : decode cX11_is 74 = .ok (.iconst 1, 1) := dk_4 (dk_at dksX11_is_3 6 rfl rfl)
theorem dX11_is_75 : decode cX11_is 75 = .ok (.goto 45, 3) := dk_167 0 45 (dk_at dksX11_is_3 7 rfl rfl)
theorem dX11_is_78 : decode cX11_is 78 = .ok (.iconst 0, 1) := dk_3 (dk_at dksX11_is_3 10 rfl rfl)
theorem dX11_is_79 : decode cX11_is 79 = .ok (.goto 41, 3) := dk_167 0 41 (dk_at dksX11_is_3 11 rfl rfl)
theorem dX11_is_82 : decode cX11_is 82 = .ok (.aload_n 0, 1) := dk_42 (dk_at dksX11_is_3 14 rfl rfl)
theorem dX11_is_83 : decode cX11_is 83 = .ok (.getfield 18, 3) := dk_180 0 18 (dk_at dksX11_is_3 15 rfl rfl)
theorem dX11_is_86 : decode cX11_is 86 = .ok (.bipush 62, 2) := dk_16 62 (dk_at dksX11_is_3 18 rfl rfl)
theorem dX11_is_88 : decode cX11_is 88 = .ok (.if_icmp .ne 19, 3) := dk_160 0 19 (dk_at dksX11_is_3 20 rfl rfl)
theorem dX11_is_91 : decode cX11_is 91 = .ok (.iload_n 2, 1) := dk_28 (dk_at dksX11_is_3 23 rfl rfl)
theorem dX11_is_92 : decode cX11_is 92 = .ok (.aload_n 0, 1) := dk_42 (dk_at dksX11_is_4 0 rfl rfl)
theorem dX11_is_93 : decode cX11_is 93 = .ok (.getfield 21, 3) := dk_180 0 21 (dk_at dksX11_is_4 1 rfl rfl)
theorem dX11_is_96 : decode cX11_is 96 = .ok (.if_icmp .le 7, 3) := dk_164 0 7 (dk_at dksX11_is_4 4 rfl rfl)
theorem dX11_is_99 : decode cX11_is 99 = .ok (.iconst 1, 1) := dk_4 (dk_at dksX11_is_4 7 rfl rfl)
theorem dX11_is_100 : decode cX11_is 100 = .ok (.goto 20, 3) := dk_167 0 20 (dk_at dksX11_is_4 8 rfl rfl)
theorem dX11_is_103 : decode cX11_is 103 = .ok (.iconst 0, 1) := dk_3 (dk_at dksX11_is_4 11 rfl rfl)
theorem dX11_is_104 : decode cX11_is 104 = .ok (.goto 16, 3) := dk_167 0 16 (dk_at dksX11_is_4 12 rfl rfl)
theorem dX11_is_107 : decode cX11_is 107 = .ok (.iload_n 2, 1) := dk_28 (dk_at dksX11_is_4 15 rfl rfl)
theorem dX11_is_108 : decode cX11_is 108 = .ok (.aload_n 0, 1) := dk_42 (dk_at dksX11_is_4 16 rfl rfl)
theorem dX11_is_109 : decode cX11_is 109 = .ok (.getfield 21, 3) := dk_180 0 21 (dk_at dksX11_is_4 17 rfl rfl)
theorem dX11_is_112 : decode cX11_is 112 = .ok (.if_icmp .ne 7, 3) := dk_160 0 7 (dk_at dksX11_is_4 20 rfl rfl)
theorem dX11_is_115 : decode cX11_is 115 = .ok (.iconst 1, 1) := dk_4 (dk_at dksX11_is_4 23 rfl rfl)
theorem dX11_is_116 : decode cX11_is 116 = .ok (.goto 4, 3) := dk_167 0 4 (dk_at dksX11_is_5 0 rfl rfl)
theorem dX11_is_119 : decode cX11_is 119 = .ok (.iconst 0, 1) := dk_3 (dk_at dksX11_is_5 3 rfl rfl)
theorem dX11_is_120 : decode cX11_is 120 = .ok (.ireturn, 1) := dk_172 (dk_at dksX11_is_5 4 rfl rfl)
theorem q164 : (Jvm.Cond.initialized "IslandCall$When") ∈ lw_all := lw_g (lw_at lw_m1 24 rfl) rfl
theorem q309 : (Jvm.Cond.fieldLinkNest "IslandCall$When" (24 : Nat) "IslandCall$Boat" "aboard" "I" "IslandCall") ∈ lw_tbl := lw_at lw_m1 169 rfl
theorem q314 : (Jvm.Cond.fieldLinkNest "IslandCall$When" (33 : Nat) "IslandCall$Boat" "shown" "I" "IslandCall") ∈ lw_tbl := lw_at lw_m1 174 rfl
theorem q327 : (Jvm.Cond.fieldLinkNest "IslandCall$When" (36 : Nat) "IslandCall$Boat" "hold" "[I" "IslandCall") ∈ lw_tbl := lw_at lw_m1 187 rfl
theorem q861 : (Jvm.Cond.instantiable "IslandCall$When" (6 : Nat)) ∈ lw_all := lw_g (lw_at lw_m4 1 rfl) rfl
theorem q863 : (Jvm.Cond.instanceMethod ({ cls := "IslandCall$When", name := "<init>", desc := "(IIII)V" } : Jvm.MethodName)) ∈ lw_all := lw_g (lw_at lw_m4 3 rfl) rfl
theorem q864 : (Jvm.Cond.code ({ cls := "IslandCall$When", name := "<init>", desc := "(IIII)V" } : Jvm.MethodName) prog_13_method_1_code (5 : Nat) (Option.none : Option Jvm.ClassFile.FieldType)) ∈ lw_all := lw_g (lw_at lw_m4 4 rfl) rfl
theorem q865 : (Jvm.Cond.methodLinkNest "IslandCall$When" (3 : Nat) ({ cls := "IslandCall$Block", name := "<init>", desc := "()V" } : Jvm.MethodName) "IslandCall") ∈ lw_tbl := lw_at lw_m4 5 rfl
theorem q866 : (Jvm.Cond.fieldLink "IslandCall$When" (9 : Nat) "IslandCall$When" "what" "I") ∈ lw_all := lw_g (lw_at lw_m4 6 rfl) rfl
theorem q867 : (Jvm.Cond.fieldLink "IslandCall$When" (15 : Nat) "IslandCall$When" "one" "I") ∈ lw_all := lw_g (lw_at lw_m4 7 rfl) rfl
theorem q868 : (Jvm.Cond.fieldLink "IslandCall$When" (18 : Nat) "IslandCall$When" "sign" "I") ∈ lw_all := lw_g (lw_at lw_m4 8 rfl) rfl
theorem q869 : (Jvm.Cond.fieldLink "IslandCall$When" (21 : Nat) "IslandCall$When" "number" "I") ∈ lw_all := lw_g (lw_at lw_m4 9 rfl) rfl
theorem q870 : (Jvm.Cond.laysFinal "IslandCall$When" "IslandCall$When" "what" "I") ∈ lw_all := lw_g (lw_at lw_m4 10 rfl) rfl
theorem q871 : (Jvm.Cond.soleField "IslandCall$When" "what") ∈ lw_all := lw_g (lw_at lw_m4 11 rfl) rfl
theorem q872 : (Jvm.Cond.laysFinal "IslandCall$When" "IslandCall$When" "one" "I") ∈ lw_all := lw_g (lw_at lw_m4 12 rfl) rfl
theorem q873 : (Jvm.Cond.soleField "IslandCall$When" "one") ∈ lw_all := lw_g (lw_at lw_m4 13 rfl) rfl
theorem q874 : (Jvm.Cond.laysFinal "IslandCall$When" "IslandCall$When" "sign" "I") ∈ lw_all := lw_g (lw_at lw_m4 14 rfl) rfl
theorem q875 : (Jvm.Cond.soleField "IslandCall$When" "sign") ∈ lw_all := lw_g (lw_at lw_m4 15 rfl) rfl
theorem q876 : (Jvm.Cond.laysFinal "IslandCall$When" "IslandCall$When" "number" "I") ∈ lw_all := lw_g (lw_at lw_m4 16 rfl) rfl
theorem q877 : (Jvm.Cond.soleField "IslandCall$When" "number") ∈ lw_all := lw_g (lw_at lw_m4 17 rfl) rfl
theorem q878 : (Jvm.Cond.lays "IslandCall$When" "IslandCall$Block" "steps" "[LIslandCall$Step;") ∈ lw_all := lw_g (lw_at lw_m4 18 rfl) rfl
theorem q879 : (Jvm.Cond.lays "IslandCall$When" "IslandCall$Block" "size" "I") ∈ lw_all := lw_g (lw_at lw_m4 19 rfl) rfl
theorem q880 : (Jvm.Cond.superclass "IslandCall$When" "IslandCall$Block") ∈ lw_all := lw_g (lw_at lw_m4 20 rfl) rfl
theorem q907 : (Jvm.Cond.selects "IslandCall$When" ({ cls := "IslandCall$Block", name := "add", desc := "(LIslandCall$Step;)V" } : Jvm.MethodName) ({ cls := "IslandCall$Block", name := "add", desc := "(LIslandCall$Step;)V" } : Jvm.MethodName)) ∈ lw_all := lw_g (lw_at lw_m4 47 rfl) rfl
theorem q1284 : (Jvm.Cond.fieldLinkNest "IslandCall$When" (40 : Nat) "IslandCall$Living" "boat" "LIslandCall$Boat;" "IslandCall") ∈ lw_tbl := lw_at lw_m5 184 rfl
theorem q1332 : (Jvm.Cond.selects "IslandCall$When" ({ cls := "IslandCall$Step", name := "go", desc := "(LIslandCall$Living;)V" } : Jvm.MethodName) ({ cls := "IslandCall$Step", name := "go", desc := "(LIslandCall$Living;)V" } : Jvm.MethodName)) ∈ lw_all := lw_g (lw_at lw_m5 232 rfl) rfl
theorem q1371 : (Jvm.Cond.selects "IslandCall$When" ({ cls := "IslandCall$Step", name := "does", desc := "(LIslandCall$Living;)V" } : Jvm.MethodName) ({ cls := "IslandCall$When", name := "does", desc := "(LIslandCall$Living;)V" } : Jvm.MethodName)) ∈ lw_all := lw_g (lw_at lw_m6 31 rfl) rfl
theorem q1372 : (Jvm.Cond.instanceMethod ({ cls := "IslandCall$When", name := "does", desc := "(LIslandCall$Living;)V" } : Jvm.MethodName)) ∈ lw_all := lw_g (lw_at lw_m6 32 rfl) rfl
theorem q1373 : (Jvm.Cond.code ({ cls := "IslandCall$When", name := "does", desc := "(LIslandCall$Living;)V" } : Jvm.MethodName) prog_13_method_3_code (2 : Nat) (Option.none : Option Jvm.ClassFile.FieldType)) ∈ lw_all := lw_g (lw_at lw_m6 33 rfl) rfl
theorem q1374 : (Jvm.Cond.methodLink "IslandCall$When" (46 : Nat) ({ cls := "IslandCall$When", name := "is", desc := "(LIslandCall$Boat;)Z" } : Jvm.MethodName)) ∈ lw_all := lw_g (lw_at lw_m6 34 rfl) rfl
theorem q1375 : (Jvm.Cond.privateMethod ({ cls := "IslandCall$When", name := "is", desc := "(LIslandCall$Boat;)Z" } : Jvm.MethodName)) ∈ lw_tbl := lw_at lw_m6 35 rfl
theorem q1376 : (Jvm.Cond.instanceMethod ({ cls := "IslandCall$When", name := "is", desc := "(LIslandCall$Boat;)Z" } : Jvm.MethodName)) ∈ lw_all := lw_g (lw_at lw_m6 36 rfl) rfl
theorem q1377 : (Jvm.Cond.code ({ cls := "IslandCall$When", name := "is", desc := "(LIslandCall$Boat;)Z" } : Jvm.MethodName) prog_13_method_2_code (3 : Nat) (Option.some Jvm.ClassFile.FieldType.boolean)) ∈ lw_all := lw_g (lw_at lw_m6 37 rfl) rfl
theorem q1378 : (Jvm.Cond.methodLinkNest "IslandCall$When" (29 : Nat) ({ cls := "IslandCall", name := "has", desc := "(II)Z" } : Jvm.MethodName) "IslandCall") ∈ lw_tbl := lw_at lw_m6 38 rfl
theorem q1379 : (Jvm.Cond.methodLink "IslandCall$When" (50 : Nat) ({ cls := "IslandCall$When", name := "all", desc := "(LIslandCall$Living;)V" } : Jvm.MethodName)) ∈ lw_all := lw_g (lw_at lw_m6 39 rfl) rfl
theorem q1380 : (Jvm.Cond.sameMethod "IslandCall$When" "IslandCall$Block" "all" "(LIslandCall$Living;)V") ∈ lw_all := lw_g (lw_at lw_m6 40 rfl) rfl
theorem q1381 : (Jvm.Cond.selects "IslandCall$When" ({ cls := "IslandCall$When", name := "all", desc := "(LIslandCall$Living;)V" } : Jvm.MethodName) ({ cls := "IslandCall$Block", name := "all", desc := "(LIslandCall$Living;)V" } : Jvm.MethodName)) ∈ lw_all := lw_g (lw_at lw_m6 41 rfl) rfl
theorem q2115 : (Jvm.Cond.castable "IslandCall$When" "IslandCall$Step") ∈ lw_tbl := lw_at lw_m9 55 rfl
theorem in_X11 : ∀ w ∈ wsX110, w ∈ lw_all := lw_in wsX110 [878, 879, 870, 872, 874, 876] (by decide +kernel) (by decide +kernel)

/-! IslandCall$Act -/
set_option maxRecDepth 100000
def RX12 : String := "IslandCall$Act"
def TX12 : u_T := fun k => match k with
  | 0 => ("IslandCall$Act", "what", "I", true)
  | 1 => ("IslandCall$Act", "one", "I", true)
  | _ => ("IslandCall$Act", "two", "I", true)
def tyX12 : Nat → FieldType := fun k => match k with
  | 0 => .int
  | 1 => .int
  | _ => .int
abbrev wsX120 : List Cond := u_ws RX12 TX12 3
theorem nmX12 : ∀ a, a < 3 → ∀ b, b < 3 → a ≠ b → (TX12 a).2.1 ≠ (TX12 b).2.1 := by decide +kernel
theorem tyX12_ok : ∀ k, k < 3 → parseFieldDescriptor (TX12 k).2.2.1 = some (tyX12 k) := by decide +kernel
abbrev cX12_init : ByteArray := prog_2_method_1_code
def yX12_init : MethodName := ⟨RX12, "<init>", "(III)V"⟩
def dkwX12_init_0 : List UInt8 := [42, 183, 0, 3, 42, 27, 181, 0, 9, 42, 28, 181, 0, 15, 42, 29, 181, 0, 18, 177]
abbrev dktX12_init_0 : List UInt8 := dkwX12_init_0 ++ []
theorem dksX12_init_0 : cX12_init.data.toList.drop 0 = dktX12_init_0 := by decide +kernel
theorem dX12_init_0 : decode cX12_init 0 = .ok (.aload_n 0, 1) := dk_42 (dk_at dksX12_init_0 0 rfl rfl)
theorem dX12_init_1 : decode cX12_init 1 = .ok (.invokespecial 3, 3) := dk_183 0 3 (dk_at dksX12_init_0 1 rfl rfl)
theorem dX12_init_4 : decode cX12_init 4 = .ok (.aload_n 0, 1) := dk_42 (dk_at dksX12_init_0 4 rfl rfl)
theorem dX12_init_5 : decode cX12_init 5 = .ok (.iload_n 1, 1) := dk_27 (dk_at dksX12_init_0 5 rfl rfl)
theorem dX12_init_6 : decode cX12_init 6 = .ok (.putfield 9, 3) := dk_181 0 9 (dk_at dksX12_init_0 6 rfl rfl)
theorem dX12_init_9 : decode cX12_init 9 = .ok (.aload_n 0, 1) := dk_42 (dk_at dksX12_init_0 9 rfl rfl)
theorem dX12_init_10 : decode cX12_init 10 = .ok (.iload_n 2, 1) := dk_28 (dk_at dksX12_init_0 10 rfl rfl)
theorem dX12_init_11 : decode cX12_init 11 = .ok (.putfield 15, 3) := dk_181 0 15 (dk_at dksX12_init_0 11 rfl rfl)
theorem dX12_init_14 : decode cX12_init 14 = .ok (.aload_n 0, 1) := dk_42 (dk_at dksX12_init_0 14 rfl rfl)
theorem dX12_init_15 : decode cX12_init 15 = .ok (.iload_n 3, 1) := dk_29 (dk_at dksX12_init_0 15 rfl rfl)
theorem dX12_init_16 : decode cX12_init 16 = .ok (.putfield 18, 3) := dk_181 0 18 (dk_at dksX12_init_0 16 rfl rfl)
theorem dX12_init_19 : decode cX12_init 19 = .ok (.return_, 1) := dk_177 (dk_at dksX12_init_0 19 rfl rfl)
abbrev cX12_does : ByteArray := prog_2_method_7_code
def yX12_does : MethodName := ⟨RX12, "does", "(LIslandCall$Living;)V"⟩
def dkwX12_does_0 : List UInt8 := [42, 43, 182, 0, 87, 154, 0, 13, 43, 89, 180, 0, 91, 4, 96, 181, 0, 91, 177]
abbrev dktX12_does_0 : List UInt8 := dkwX12_does_0 ++ []
theorem dksX12_does_0 : cX12_does.data.toList.drop 0 = dktX12_does_0 := by decide +kernel
theorem dX12_does_0 : decode cX12_does 0 = .ok (.aload_n 0, 1) := dk_42 (dk_at dksX12_does_0 0 rfl rfl)
theorem dX12_does_1 : decode cX12_does 1 = .ok (.aload_n 1, 1) := dk_43 (dk_at dksX12_does_0 1 rfl rfl)
theorem dX12_does_2 : decode cX12_does 2 = .ok (.invokevirtual 87, 3) := dk_182 0 87 (dk_at dksX12_does_0 2 rfl rfl)
theorem dX12_does_5 : decode cX12_does 5 = .ok (.ifCond .ne 13, 3) := dk_154 0 13 (dk_at dksX12_does_0 5 rfl rfl)
theorem dX12_does_8 : decode cX12_does 8 = .ok (.aload_n 1, 1) := dk_43 (dk_at dksX12_does_0 8 rfl rfl)
theorem dX12_does_9 : decode cX12_does 9 = .ok (.dup, 1) := dk_89 (dk_at dksX12_does_0 9 rfl rfl)
theorem dX12_does_10 : decode cX12_does 10 = .ok (.getfield 91, 3) := dk_180 0 91 (dk_at dksX12_does_0 10 rfl rfl)
theorem dX12_does_13 : decode cX12_does 13 = .ok (.iconst 1, 1) := dk_4 (dk_at dksX12_does_0 13 rfl rfl)
theorem dX12_does_14 : decode cX12_does 14 = .ok (.iadd, 1) := dk_96 (dk_at dksX12_does_0 14 rfl rfl)
theorem dX12_does_15 : decode cX12_does 15 = .ok (.putfield 91, 3) := dk_181 0 91 (dk_at dksX12_does_0 15 rfl rfl)
theorem dX12_does_18 : decode cX12_does 18 = .ok (.return_, 1) := dk_177 (dk_at dksX12_does_0 18 rfl rfl)
abbrev cX12_can : ByteArray := prog_2_method_2_code
def yX12_can : MethodName := ⟨RX12, "can", "(LIslandCall$Living;)Z"⟩
def dkwX12_can_4 : List UInt8 := [44, 184, 0, 27, 153, 0, 7, 4, 167, 0, 4, 3, 172, 43, 4, 181, 0, 51, 4, 172]
abbrev dktX12_can_4 : List UInt8 := dkwX12_can_4 ++ []
def dkwX12_can_3 : List UInt8 := [182, 0, 35, 172, 42, 44, 182, 0, 39, 172, 43, 16, 16, 182, 0, 42, 44, 180, 0, 46, 162, 0, 15, 43]
abbrev dktX12_can_3 : List UInt8 := dkwX12_can_3 ++ dktX12_can_4
def dkwX12_can_2 : List UInt8 := [43, 44, 184, 0, 27, 172, 42, 44, 4, 182, 0, 31, 172, 42, 44, 3, 182, 0, 31, 172, 42, 44]
abbrev dktX12_can_2 : List UInt8 := dkwX12_can_2 ++ dktX12_can_3
def dkwX12_can_1 : List UInt8 := [170, 0, 0, 0, 0, 0, 98, 0, 0, 0, 0, 0, 0, 0, 5, 0, 0, 0, 39, 0, 0, 0, 45, 0, 0, 0, 52, 0, 0, 0, 59, 0, 0, 0, 65, 0, 0, 0, 71]
abbrev dktX12_can_1 : List UInt8 := dkwX12_can_1 ++ dktX12_can_2
def dkwX12_can_0 : List UInt8 := [43, 180, 0, 21, 77, 42, 180, 0, 9]
abbrev dktX12_can_0 : List UInt8 := dkwX12_can_0 ++ dktX12_can_1
theorem dksX12_can_0 : cX12_can.data.toList.drop 0 = dktX12_can_0 := by decide +kernel
theorem dksX12_can_1 : cX12_can.data.toList.drop 9 = dktX12_can_1 := dk_seg dksX12_can_0 9 rfl rfl
theorem dksX12_can_2 : cX12_can.data.toList.drop 48 = dktX12_can_2 := dk_seg dksX12_can_1 39 rfl rfl
theorem dksX12_can_3 : cX12_can.data.toList.drop 70 = dktX12_can_3 := dk_seg dksX12_can_2 22 rfl rfl
theorem dksX12_can_4 : cX12_can.data.toList.drop 94 = dktX12_can_4 := dk_seg dksX12_can_3 24 rfl rfl
theorem dX12_can_0 : decode cX12_can 0 = .ok (.aload_n 1, 1) := dk_43 (dk_at dksX12_can_0 0 rfl rfl)
theorem dX12_can_1 : decode cX12_can 1 = .ok (.getfield 21, 3) := dk_180 0 21 (dk_at dksX12_can_0 1 rfl rfl)
theorem dX12_can_4 : decode cX12_can 4 = .ok (.astore_n 2, 1) := dk_77 (dk_at dksX12_can_0 4 rfl rfl)
theorem dX12_can_5 : decode cX12_can 5 = .ok (.aload_n 0, 1) := dk_42 (dk_at dksX12_can_0 5 rfl rfl)
theorem dX12_can_6 : decode cX12_can 6 = .ok (.getfield 9, 3) := dk_180 0 9 (dk_at dksX12_can_0 6 rfl rfl)
theorem dX12_can_9 : decode cX12_can 9 = .ok (.tableswitch 98 0 5 #[39, 45, 52, 59, 65, 71], 39) := by decide +kernel
theorem dX12_can_48 : decode cX12_can 48 = .ok (.aload_n 1, 1) := dk_43 (dk_at dksX12_can_2 0 rfl rfl)
theorem dX12_can_49 : decode cX12_can 49 = .ok (.aload_n 2, 1) := dk_44 (dk_at dksX12_can_2 1 rfl rfl)
theorem dX12_can_50 : decode cX12_can 50 = .ok (.invokestatic 27, 3) := dk_184 0 27 (dk_at dksX12_can_2 2 rfl rfl)
theorem dX12_can_53 : decode cX12_can 53 = .ok (.ireturn, 1) := dk_172 (dk_at dksX12_can_2 5 rfl rfl)
theorem dX12_can_54 : decode cX12_can 54 = .ok (.aload_n 0, 1) := dk_42 (dk_at dksX12_can_2 6 rfl rfl)
theorem dX12_can_55 : decode cX12_can 55 = .ok (.aload_n 2, 1) := dk_44 (dk_at dksX12_can_2 7 rfl rfl)
theorem dX12_can_56 : decode cX12_can 56 = .ok (.iconst 1, 1) := dk_4 (dk_at dksX12_can_2 8 rfl rfl)
theorem dX12_can_57 : decode cX12_can 57 = .ok (.invokevirtual 31, 3) := dk_182 0 31 (dk_at dksX12_can_2 9 rfl rfl)
theorem dX12_can_60 : decode cX12_can 60 = .ok (.ireturn, 1) := dk_172 (dk_at dksX12_can_2 12 rfl rfl)
theorem dX12_can_61 : decode cX12_can 61 = .ok (.aload_n 0, 1) := dk_42 (dk_at dksX12_can_2 13 rfl rfl)
theorem dX12_can_62 : decode cX12_can 62 = .ok (.aload_n 2, 1) := dk_44 (dk_at dksX12_can_2 14 rfl rfl)
theorem dX12_can_63 : decode cX12_can 63 = .ok (.iconst 0, 1) := dk_3 (dk_at dksX12_can_2 15 rfl rfl)
theorem dX12_can_64 : decode cX12_can 64 = .ok (.invokevirtual 31, 3) := dk_182 0 31 (dk_at dksX12_can_2 16 rfl rfl)
theorem dX12_can_67 : decode cX12_can 67 = .ok (.ireturn, 1) := dk_172 (dk_at dksX12_can_2 19 rfl rfl)
theorem dX12_can_68 : decode cX12_can 68 = .ok (.aload_n 0, 1) := dk_42 (dk_at dksX12_can_2 20 rfl rfl)
theorem dX12_can_69 : decode cX12_can 69 = .ok (.aload_n 2, 1) := dk_44 (dk_at dksX12_can_2 21 rfl rfl)
theorem dX12_can_70 : decode cX12_can 70 = .ok (.invokevirtual 35, 3) := dk_182 0 35 (dk_at dksX12_can_3 0 rfl rfl)
theorem dX12_can_73 : decode cX12_can 73 = .ok (.ireturn, 1) := dk_172 (dk_at dksX12_can_3 3 rfl rfl)
theorem dX12_can_74 : decode cX12_can 74 = .ok (.aload_n 0, 1) := dk_42 (dk_at dksX12_can_3 4 rfl rfl)
theorem dX12_can_75 : decode cX12_can 75 = .ok (.aload_n 2, 1) := dk_44 (dk_at dksX12_can_3 5 rfl rfl)
theorem dX12_can_76 : decode cX12_can 76 = .ok (.invokevirtual 39, 3) := dk_182 0 39 (dk_at dksX12_can_3 6 rfl rfl)
theorem dX12_can_79 : decode cX12_can 79 = .ok (.ireturn, 1) := dk_172 (dk_at dksX12_can_3 9 rfl rfl)
theorem dX12_can_80 : decode cX12_can 80 = .ok (.aload_n 1, 1) := dk_43 (dk_at dksX12_can_3 10 rfl rfl)
theorem dX12_can_81 : decode cX12_can 81 = .ok (.bipush 16, 2) := dk_16 16 (dk_at dksX12_can_3 11 rfl rfl)
theorem dX12_can_83 : decode cX12_can 83 = .ok (.invokevirtual 42, 3) := dk_182 0 42 (dk_at dksX12_can_3 13 rfl rfl)
theorem dX12_can_86 : decode cX12_can 86 = .ok (.aload_n 2, 1) := dk_44 (dk_at dksX12_can_3 16 rfl rfl)
theorem dX12_can_87 : decode cX12_can 87 = .ok (.getfield 46, 3) := dk_180 0 46 (dk_at dksX12_can_3 17 rfl rfl)
theorem dX12_can_90 : decode cX12_can 90 = .ok (.if_icmp .ge 15, 3) := dk_162 0 15 (dk_at dksX12_can_3 20 rfl rfl)
theorem dX12_can_93 : decode cX12_can 93 = .ok (.aload_n 1, 1) := dk_43 (dk_at dksX12_can_3 23 rfl rfl)
theorem dX12_can_94 : decode cX12_can 94 = .ok (.aload_n 2, 1) := dk_44 (dk_at dksX12_can_4 0 rfl rfl)
theorem dX12_can_95 : decode cX12_can 95 = .ok (.invokestatic 27, 3) := dk_184 0 27 (dk_at dksX12_can_4 1 rfl rfl)
theorem dX12_can_98 : decode cX12_can 98 = .ok (.ifCond .eq 7, 3) := dk_153 0 7 (dk_at dksX12_can_4 4 rfl rfl)
theorem dX12_can_101 : decode cX12_can 101 = .ok (.iconst 1, 1) := dk_4 (dk_at dksX12_can_4 7 rfl rfl)
theorem dX12_can_102 : decode cX12_can 102 = .ok (.goto 4, 3) := dk_167 0 4 (dk_at dksX12_can_4 8 rfl rfl)
theorem dX12_can_105 : decode cX12_can 105 = .ok (.iconst 0, 1) := dk_3 (dk_at dksX12_can_4 11 rfl rfl)
theorem dX12_can_106 : decode cX12_can 106 = .ok (.ireturn, 1) := dk_172 (dk_at dksX12_can_4 12 rfl rfl)
theorem dX12_can_107 : decode cX12_can 107 = .ok (.aload_n 1, 1) := dk_43 (dk_at dksX12_can_4 13 rfl rfl)
theorem dX12_can_108 : decode cX12_can 108 = .ok (.iconst 1, 1) := dk_4 (dk_at dksX12_can_4 14 rfl rfl)
theorem dX12_can_109 : decode cX12_can 109 = .ok (.putfield 51, 3) := dk_181 0 51 (dk_at dksX12_can_4 15 rfl rfl)
theorem dX12_can_112 : decode cX12_can 112 = .ok (.iconst 1, 1) := dk_4 (dk_at dksX12_can_4 18 rfl rfl)
theorem dX12_can_113 : decode cX12_can 113 = .ok (.ireturn, 1) := dk_172 (dk_at dksX12_can_4 19 rfl rfl)
abbrev cX12_calls : ByteArray := prog_2_method_3_code
def yX12_calls : MethodName := ⟨RX12, "calls", "(LIslandCall$Living;LIslandCall$Boat;)Z"⟩
def dkwX12_calls_2 : List UInt8 := [184, 0, 65, 96, 181, 0, 70, 4, 172]
abbrev dktX12_calls_2 : List UInt8 := dkwX12_calls_2 ++ []
def dkwX12_calls_1 : List UInt8 := [180, 0, 58, 43, 182, 0, 61, 184, 0, 65, 96, 181, 0, 58, 42, 89, 180, 0, 70, 43, 180, 0, 73]
abbrev dktX12_calls_1 : List UInt8 := dkwX12_calls_1 ++ dktX12_calls_2
def dkwX12_calls_0 : List UInt8 := [43, 180, 0, 55, 17, 39, 15, 160, 0, 5, 3, 172, 42, 89, 180, 0, 57, 4, 96, 181, 0, 57, 42, 89]
abbrev dktX12_calls_0 : List UInt8 := dkwX12_calls_0 ++ dktX12_calls_1
theorem dksX12_calls_0 : cX12_calls.data.toList.drop 0 = dktX12_calls_0 := by decide +kernel
theorem dksX12_calls_1 : cX12_calls.data.toList.drop 24 = dktX12_calls_1 := dk_seg dksX12_calls_0 24 rfl rfl
theorem dksX12_calls_2 : cX12_calls.data.toList.drop 47 = dktX12_calls_2 := dk_seg dksX12_calls_1 23 rfl rfl
theorem dX12_calls_0 : decode cX12_calls 0 = .ok (.aload_n 1, 1) := dk_43 (dk_at dksX12_calls_0 0 rfl rfl)
theorem dX12_calls_1 : decode cX12_calls 1 = .ok (.getfield 55, 3) := dk_180 0 55 (dk_at dksX12_calls_0 1 rfl rfl)
theorem dX12_calls_4 : decode cX12_calls 4 = .ok (.sipush 9999, 3) := dk_17 39 15 (dk_at dksX12_calls_0 4 rfl rfl)
theorem dX12_calls_7 : decode cX12_calls 7 = .ok (.if_icmp .ne 5, 3) := dk_160 0 5 (dk_at dksX12_calls_0 7 rfl rfl)
theorem dX12_calls_10 : decode cX12_calls 10 = .ok (.iconst 0, 1) := dk_3 (dk_at dksX12_calls_0 10 rfl rfl)
theorem dX12_calls_11 : decode cX12_calls 11 = .ok (.ireturn, 1) := dk_172 (dk_at dksX12_calls_0 11 rfl rfl)
theorem dX12_calls_12 : decode cX12_calls 12 = .ok (.aload_n 0, 1) := dk_42 (dk_at dksX12_calls_0 12 rfl rfl)
theorem dX12_calls_13 : decode cX12_calls 13 = .ok (.dup, 1) := dk_89 (dk_at dksX12_calls_0 13 rfl rfl)
theorem dX12_calls_14 : decode cX12_calls 14 = .ok (.getfield 57, 3) := dk_180 0 57 (dk_at dksX12_calls_0 14 rfl rfl)
theorem dX12_calls_17 : decode cX12_calls 17 = .ok (.iconst 1, 1) := dk_4 (dk_at dksX12_calls_0 17 rfl rfl)
theorem dX12_calls_18 : decode cX12_calls 18 = .ok (.iadd, 1) := dk_96 (dk_at dksX12_calls_0 18 rfl rfl)
theorem dX12_calls_19 : decode cX12_calls 19 = .ok (.putfield 57, 3) := dk_181 0 57 (dk_at dksX12_calls_0 19 rfl rfl)
theorem dX12_calls_22 : decode cX12_calls 22 = .ok (.aload_n 0, 1) := dk_42 (dk_at dksX12_calls_0 22 rfl rfl)
theorem dX12_calls_23 : decode cX12_calls 23 = .ok (.dup, 1) := dk_89 (dk_at dksX12_calls_0 23 rfl rfl)
theorem dX12_calls_24 : decode cX12_calls 24 = .ok (.getfield 58, 3) := dk_180 0 58 (dk_at dksX12_calls_1 0 rfl rfl)
theorem dX12_calls_27 : decode cX12_calls 27 = .ok (.aload_n 1, 1) := dk_43 (dk_at dksX12_calls_1 3 rfl rfl)
theorem dX12_calls_28 : decode cX12_calls 28 = .ok (.invokevirtual 61, 3) := dk_182 0 61 (dk_at dksX12_calls_1 4 rfl rfl)
theorem dX12_calls_31 : decode cX12_calls 31 = .ok (.invokestatic 65, 3) := dk_184 0 65 (dk_at dksX12_calls_1 7 rfl rfl)
theorem dX12_calls_34 : decode cX12_calls 34 = .ok (.iadd, 1) := dk_96 (dk_at dksX12_calls_1 10 rfl rfl)
theorem dX12_calls_35 : decode cX12_calls 35 = .ok (.putfield 58, 3) := dk_181 0 58 (dk_at dksX12_calls_1 11 rfl rfl)
theorem dX12_calls_38 : decode cX12_calls 38 = .ok (.aload_n 0, 1) := dk_42 (dk_at dksX12_calls_1 14 rfl rfl)
theorem dX12_calls_39 : decode cX12_calls 39 = .ok (.dup, 1) := dk_89 (dk_at dksX12_calls_1 15 rfl rfl)
theorem dX12_calls_40 : decode cX12_calls 40 = .ok (.getfield 70, 3) := dk_180 0 70 (dk_at dksX12_calls_1 16 rfl rfl)
theorem dX12_calls_43 : decode cX12_calls 43 = .ok (.aload_n 1, 1) := dk_43 (dk_at dksX12_calls_1 19 rfl rfl)
theorem dX12_calls_44 : decode cX12_calls 44 = .ok (.getfield 73, 3) := dk_180 0 73 (dk_at dksX12_calls_1 20 rfl rfl)
theorem dX12_calls_47 : decode cX12_calls 47 = .ok (.invokestatic 65, 3) := dk_184 0 65 (dk_at dksX12_calls_2 0 rfl rfl)
theorem dX12_calls_50 : decode cX12_calls 50 = .ok (.iadd, 1) := dk_96 (dk_at dksX12_calls_2 3 rfl rfl)
theorem dX12_calls_51 : decode cX12_calls 51 = .ok (.putfield 70, 3) := dk_181 0 70 (dk_at dksX12_calls_2 4 rfl rfl)
theorem dX12_calls_54 : decode cX12_calls 54 = .ok (.iconst 1, 1) := dk_4 (dk_at dksX12_calls_2 7 rfl rfl)
theorem dX12_calls_55 : decode cX12_calls 55 = .ok (.ireturn, 1) := dk_172 (dk_at dksX12_calls_2 8 rfl rfl)
abbrev cX12_shows : ByteArray := prog_2_method_4_code
def yX12_shows : MethodName := ⟨RX12, "shows", "(LIslandCall$Boat;Z)Z"⟩
def dkwX12_shows_1 : List UInt8 := [180, 0, 15, 120, 130, 181, 0, 76, 4, 172]
abbrev dktX12_shows_1 : List UInt8 := dkwX12_shows_1 ++ []
def dkwX12_shows_0 : List UInt8 := [43, 180, 0, 76, 42, 180, 0, 15, 184, 0, 79, 28, 160, 0, 5, 3, 172, 43, 89, 180, 0, 76, 4, 42]
abbrev dktX12_shows_0 : List UInt8 := dkwX12_shows_0 ++ dktX12_shows_1
theorem dksX12_shows_0 : cX12_shows.data.toList.drop 0 = dktX12_shows_0 := by decide +kernel
theorem dksX12_shows_1 : cX12_shows.data.toList.drop 24 = dktX12_shows_1 := dk_seg dksX12_shows_0 24 rfl rfl
theorem dX12_shows_0 : decode cX12_shows 0 = .ok (.aload_n 1, 1) := dk_43 (dk_at dksX12_shows_0 0 rfl rfl)
theorem dX12_shows_1 : decode cX12_shows 1 = .ok (.getfield 76, 3) := dk_180 0 76 (dk_at dksX12_shows_0 1 rfl rfl)
theorem dX12_shows_4 : decode cX12_shows 4 = .ok (.aload_n 0, 1) := dk_42 (dk_at dksX12_shows_0 4 rfl rfl)
theorem dX12_shows_5 : decode cX12_shows 5 = .ok (.getfield 15, 3) := dk_180 0 15 (dk_at dksX12_shows_0 5 rfl rfl)
theorem dX12_shows_8 : decode cX12_shows 8 = .ok (.invokestatic 79, 3) := dk_184 0 79 (dk_at dksX12_shows_0 8 rfl rfl)
theorem dX12_shows_11 : decode cX12_shows 11 = .ok (.iload_n 2, 1) := dk_28 (dk_at dksX12_shows_0 11 rfl rfl)
theorem dX12_shows_12 : decode cX12_shows 12 = .ok (.if_icmp .ne 5, 3) := dk_160 0 5 (dk_at dksX12_shows_0 12 rfl rfl)
theorem dX12_shows_15 : decode cX12_shows 15 = .ok (.iconst 0, 1) := dk_3 (dk_at dksX12_shows_0 15 rfl rfl)
theorem dX12_shows_16 : decode cX12_shows 16 = .ok (.ireturn, 1) := dk_172 (dk_at dksX12_shows_0 16 rfl rfl)
theorem dX12_shows_17 : decode cX12_shows 17 = .ok (.aload_n 1, 1) := dk_43 (dk_at dksX12_shows_0 17 rfl rfl)
theorem dX12_shows_18 : decode cX12_shows 18 = .ok (.dup, 1) := dk_89 (dk_at dksX12_shows_0 18 rfl rfl)
theorem dX12_shows_19 : decode cX12_shows 19 = .ok (.getfield 76, 3) := dk_180 0 76 (dk_at dksX12_shows_0 19 rfl rfl)
theorem dX12_shows_22 : decode cX12_shows 22 = .ok (.iconst 1, 1) := dk_4 (dk_at dksX12_shows_0 22 rfl rfl)
theorem dX12_shows_23 : decode cX12_shows 23 = .ok (.aload_n 0, 1) := dk_42 (dk_at dksX12_shows_0 23 rfl rfl)
theorem dX12_shows_24 : decode cX12_shows 24 = .ok (.getfield 15, 3) := dk_180 0 15 (dk_at dksX12_shows_1 0 rfl rfl)
theorem dX12_shows_27 : decode cX12_shows 27 = .ok (.ishl, 1) := dk_120 (dk_at dksX12_shows_1 3 rfl rfl)
theorem dX12_shows_28 : decode cX12_shows 28 = .ok (.ixor, 1) := dk_130 (dk_at dksX12_shows_1 4 rfl rfl)
theorem dX12_shows_29 : decode cX12_shows 29 = .ok (.putfield 76, 3) := dk_181 0 76 (dk_at dksX12_shows_1 5 rfl rfl)
theorem dX12_shows_32 : decode cX12_shows 32 = .ok (.iconst 1, 1) := dk_4 (dk_at dksX12_shows_1 8 rfl rfl)
theorem dX12_shows_33 : decode cX12_shows 33 = .ok (.ireturn, 1) := dk_172 (dk_at dksX12_shows_1 9 rfl rfl)
abbrev cX12_boards : ByteArray := prog_2_method_5_code
def yX12_boards : MethodName := ⟨RX12, "boards", "(LIslandCall$Boat;)Z"⟩
def dkwX12_boards_1 : List UInt8 := [180, 0, 15, 120, 128, 181, 0, 73, 4, 172]
abbrev dktX12_boards_1 : List UInt8 := dkwX12_boards_1 ++ []
def dkwX12_boards_0 : List UInt8 := [43, 180, 0, 73, 42, 180, 0, 15, 184, 0, 79, 153, 0, 5, 3, 172, 43, 89, 180, 0, 73, 4, 42]
abbrev dktX12_boards_0 : List UInt8 := dkwX12_boards_0 ++ dktX12_boards_1
theorem dksX12_boards_0 : cX12_boards.data.toList.drop 0 = dktX12_boards_0 := by decide +kernel
theorem dksX12_boards_1 : cX12_boards.data.toList.drop 23 = dktX12_boards_1 := dk_seg dksX12_boards_0 23 rfl rfl
theorem dX12_boards_0 : decode cX12_boards 0 = .ok (.aload_n 1, 1) := dk_43 (dk_at dksX12_boards_0 0 rfl rfl)
theorem dX12_boards_1 : decode cX12_boards 1 = .ok (.getfield 73, 3) := dk_180 0 73 (dk_at dksX12_boards_0 1 rfl rfl)
theorem dX12_boards_4 : decode cX12_boards 4 = .ok (.aload_n 0, 1) := dk_42 (dk_at dksX12_boards_0 4 rfl rfl)
theorem dX12_boards_5 : decode cX12_boards 5 = .ok (.getfield 15, 3) := dk_180 0 15 (dk_at dksX12_boards_0 5 rfl rfl)
theorem dX12_boards_8 : decode cX12_boards 8 = .ok (.invokestatic 79, 3) := dk_184 0 79 (dk_at dksX12_boards_0 8 rfl rfl)
theorem dX12_boards_11 : decode cX12_boards 11 = .ok (.ifCond .eq 5, 3) := dk_153 0 5 (dk_at dksX12_boards_0 11 rfl rfl)
theorem dX12_boards_14 : decode cX12_boards 14 = .ok (.iconst 0, 1) := dk_3 (dk_at dksX12_boards_0 14 rfl rfl)
theorem dX12_boards_15 : decode cX12_boards 15 = .ok (.ireturn, 1) := dk_172 (dk_at dksX12_boards_0 15 rfl rfl)
theorem dX12_boards_16 : decode cX12_boards 16 = .ok (.aload_n 1, 1) := dk_43 (dk_at dksX12_boards_0 16 rfl rfl)
theorem dX12_boards_17 : decode cX12_boards 17 = .ok (.dup, 1) := dk_89 (dk_at dksX12_boards_0 17 rfl rfl)
theorem dX12_boards_18 : decode cX12_boards 18 = .ok (.getfield 73, 3) := dk_180 0 73 (dk_at dksX12_boards_0 18 rfl rfl)
theorem dX12_boards_21 : decode cX12_boards 21 = .ok (.iconst 1, 1) := dk_4 (dk_at dksX12_boards_0 21 rfl rfl)
theorem dX12_boards_22 : decode cX12_boards 22 = .ok (.aload_n 0, 1) := dk_42 (dk_at dksX12_boards_0 22 rfl rfl)
theorem dX12_boards_23 : decode cX12_boards 23 = .ok (.getfield 15, 3) := dk_180 0 15 (dk_at dksX12_boards_1 0 rfl rfl)
theorem dX12_boards_26 : decode cX12_boards 26 = .ok (.ishl, 1) := dk_120 (dk_at dksX12_boards_1 3 rfl rfl)
theorem dX12_boards_27 : decode cX12_boards 27 = .ok (.ior, 1) := dk_128 (dk_at dksX12_boards_1 4 rfl rfl)
theorem dX12_boards_28 : decode cX12_boards 28 = .ok (.putfield 73, 3) := dk_181 0 73 (dk_at dksX12_boards_1 5 rfl rfl)
theorem dX12_boards_31 : decode cX12_boards 31 = .ok (.iconst 1, 1) := dk_4 (dk_at dksX12_boards_1 8 rfl rfl)
theorem dX12_boards_32 : decode cX12_boards 32 = .ok (.ireturn, 1) := dk_172 (dk_at dksX12_boards_1 9 rfl rfl)
abbrev cX12_sways : ByteArray := prog_2_method_6_code
def yX12_sways : MethodName := ⟨RX12, "sways", "(LIslandCall$Boat;)Z"⟩
def dkwX12_sways_1 : List UInt8 := [180, 0, 15, 42, 180, 0, 18, 79, 4, 172]
abbrev dktX12_sways_1 : List UInt8 := dkwX12_sways_1 ++ []
def dkwX12_sways_0 : List UInt8 := [43, 180, 0, 83, 42, 180, 0, 15, 46, 42, 180, 0, 18, 160, 0, 5, 3, 172, 43, 180, 0, 83, 42]
abbrev dktX12_sways_0 : List UInt8 := dkwX12_sways_0 ++ dktX12_sways_1
theorem dksX12_sways_0 : cX12_sways.data.toList.drop 0 = dktX12_sways_0 := by decide +kernel
theorem dksX12_sways_1 : cX12_sways.data.toList.drop 23 = dktX12_sways_1 := dk_seg dksX12_sways_0 23 rfl rfl
theorem dX12_sways_0 : decode cX12_sways 0 = .ok (.aload_n 1, 1) := dk_43 (dk_at dksX12_sways_0 0 rfl rfl)
theorem dX12_sways_1 : decode cX12_sways 1 = .ok (.getfield 83, 3) := dk_180 0 83 (dk_at dksX12_sways_0 1 rfl rfl)
theorem dX12_sways_4 : decode cX12_sways 4 = .ok (.aload_n 0, 1) := dk_42 (dk_at dksX12_sways_0 4 rfl rfl)
theorem dX12_sways_5 : decode cX12_sways 5 = .ok (.getfield 15, 3) := dk_180 0 15 (dk_at dksX12_sways_0 5 rfl rfl)
theorem dX12_sways_8 : decode cX12_sways 8 = .ok (.iaload, 1) := dk_46 (dk_at dksX12_sways_0 8 rfl rfl)
theorem dX12_sways_9 : decode cX12_sways 9 = .ok (.aload_n 0, 1) := dk_42 (dk_at dksX12_sways_0 9 rfl rfl)
theorem dX12_sways_10 : decode cX12_sways 10 = .ok (.getfield 18, 3) := dk_180 0 18 (dk_at dksX12_sways_0 10 rfl rfl)
theorem dX12_sways_13 : decode cX12_sways 13 = .ok (.if_icmp .ne 5, 3) := dk_160 0 5 (dk_at dksX12_sways_0 13 rfl rfl)
theorem dX12_sways_16 : decode cX12_sways 16 = .ok (.iconst 0, 1) := dk_3 (dk_at dksX12_sways_0 16 rfl rfl)
theorem dX12_sways_17 : decode cX12_sways 17 = .ok (.ireturn, 1) := dk_172 (dk_at dksX12_sways_0 17 rfl rfl)
theorem dX12_sways_18 : decode cX12_sways 18 = .ok (.aload_n 1, 1) := dk_43 (dk_at dksX12_sways_0 18 rfl rfl)
theorem dX12_sways_19 : decode cX12_sways 19 = .ok (.getfield 83, 3) := dk_180 0 83 (dk_at dksX12_sways_0 19 rfl rfl)
theorem dX12_sways_22 : decode cX12_sways 22 = .ok (.aload_n 0, 1) := dk_42 (dk_at dksX12_sways_0 22 rfl rfl)
theorem dX12_sways_23 : decode cX12_sways 23 = .ok (.getfield 15, 3) := dk_180 0 15 (dk_at dksX12_sways_1 0 rfl rfl)
theorem dX12_sways_26 : decode cX12_sways 26 = .ok (.aload_n 0, 1) := dk_42 (dk_at dksX12_sways_1 3 rfl rfl)
theorem dX12_sways_27 : decode cX12_sways 27 = .ok (.getfield 18, 3) := dk_180 0 18 (dk_at dksX12_sways_1 4 rfl rfl)
theorem dX12_sways_30 : decode cX12_sways 30 = .ok (.iastore, 1) := dk_79 (dk_at dksX12_sways_1 7 rfl rfl)
theorem dX12_sways_31 : decode cX12_sways 31 = .ok (.iconst 1, 1) := dk_4 (dk_at dksX12_sways_1 8 rfl rfl)
theorem dX12_sways_32 : decode cX12_sways 32 = .ok (.ireturn, 1) := dk_172 (dk_at dksX12_sways_1 9 rfl rfl)
theorem q165 : (Jvm.Cond.initialized "IslandCall$Act") ∈ lw_all := lw_g (lw_at lw_m1 25 rfl) rfl
theorem q297 : (Jvm.Cond.fieldLinkNest "IslandCall$Act" (46 : Nat) "IslandCall$Boat" "odds" "I" "IslandCall") ∈ lw_tbl := lw_at lw_m1 157 rfl
theorem q307 : (Jvm.Cond.fieldLinkNest "IslandCall$Act" (55 : Nat) "IslandCall$Boat" "calls" "I" "IslandCall") ∈ lw_tbl := lw_at lw_m1 167 rfl
theorem q311 : (Jvm.Cond.fieldLinkNest "IslandCall$Act" (73 : Nat) "IslandCall$Boat" "aboard" "I" "IslandCall") ∈ lw_tbl := lw_at lw_m1 171 rfl
theorem q316 : (Jvm.Cond.fieldLinkNest "IslandCall$Act" (76 : Nat) "IslandCall$Boat" "shown" "I" "IslandCall") ∈ lw_tbl := lw_at lw_m1 176 rfl
theorem q328 : (Jvm.Cond.fieldLinkNest "IslandCall$Act" (83 : Nat) "IslandCall$Boat" "hold" "[I" "IslandCall") ∈ lw_tbl := lw_at lw_m1 188 rfl
theorem q888 : (Jvm.Cond.instantiable "IslandCall$Act" (3 : Nat)) ∈ lw_all := lw_g (lw_at lw_m4 28 rfl) rfl
theorem q890 : (Jvm.Cond.instanceMethod ({ cls := "IslandCall$Act", name := "<init>", desc := "(III)V" } : Jvm.MethodName)) ∈ lw_all := lw_g (lw_at lw_m4 30 rfl) rfl
theorem q891 : (Jvm.Cond.code ({ cls := "IslandCall$Act", name := "<init>", desc := "(III)V" } : Jvm.MethodName) prog_2_method_1_code (4 : Nat) (Option.none : Option Jvm.ClassFile.FieldType)) ∈ lw_all := lw_g (lw_at lw_m4 31 rfl) rfl
theorem q892 : (Jvm.Cond.methodLinkNest "IslandCall$Act" (3 : Nat) ({ cls := "IslandCall$Step", name := "<init>", desc := "()V" } : Jvm.MethodName) "IslandCall") ∈ lw_tbl := lw_at lw_m4 32 rfl
theorem q893 : (Jvm.Cond.fieldLink "IslandCall$Act" (9 : Nat) "IslandCall$Act" "what" "I") ∈ lw_all := lw_g (lw_at lw_m4 33 rfl) rfl
theorem q894 : (Jvm.Cond.fieldLink "IslandCall$Act" (15 : Nat) "IslandCall$Act" "one" "I") ∈ lw_all := lw_g (lw_at lw_m4 34 rfl) rfl
theorem q895 : (Jvm.Cond.fieldLink "IslandCall$Act" (18 : Nat) "IslandCall$Act" "two" "I") ∈ lw_all := lw_g (lw_at lw_m4 35 rfl) rfl
theorem q896 : (Jvm.Cond.laysFinal "IslandCall$Act" "IslandCall$Act" "what" "I") ∈ lw_all := lw_g (lw_at lw_m4 36 rfl) rfl
theorem q897 : (Jvm.Cond.soleField "IslandCall$Act" "what") ∈ lw_all := lw_g (lw_at lw_m4 37 rfl) rfl
theorem q898 : (Jvm.Cond.laysFinal "IslandCall$Act" "IslandCall$Act" "one" "I") ∈ lw_all := lw_g (lw_at lw_m4 38 rfl) rfl
theorem q899 : (Jvm.Cond.soleField "IslandCall$Act" "one") ∈ lw_all := lw_g (lw_at lw_m4 39 rfl) rfl
theorem q900 : (Jvm.Cond.laysFinal "IslandCall$Act" "IslandCall$Act" "two" "I") ∈ lw_all := lw_g (lw_at lw_m4 40 rfl) rfl
theorem q901 : (Jvm.Cond.soleField "IslandCall$Act" "two") ∈ lw_all := lw_g (lw_at lw_m4 41 rfl) rfl
theorem q902 : (Jvm.Cond.superclass "IslandCall$Act" "IslandCall$Step") ∈ lw_all := lw_g (lw_at lw_m4 42 rfl) rfl
theorem q1283 : (Jvm.Cond.fieldLinkNest "IslandCall$Act" (21 : Nat) "IslandCall$Living" "boat" "LIslandCall$Boat;" "IslandCall") ∈ lw_tbl := lw_at lw_m5 183 rfl
theorem q1288 : (Jvm.Cond.fieldLinkNest "IslandCall$Act" (91 : Nat) "IslandCall$Living" "missed" "I" "IslandCall") ∈ lw_tbl := lw_at lw_m5 188 rfl
theorem q1290 : (Jvm.Cond.fieldLinkNest "IslandCall$Act" (57 : Nat) "IslandCall$Living" "calls" "I" "IslandCall") ∈ lw_tbl := lw_at lw_m5 190 rfl
theorem q1292 : (Jvm.Cond.fieldLinkNest "IslandCall$Act" (58 : Nat) "IslandCall$Living" "out" "I" "IslandCall") ∈ lw_tbl := lw_at lw_m5 192 rfl
theorem q1294 : (Jvm.Cond.fieldLinkNest "IslandCall$Act" (70 : Nat) "IslandCall$Living" "sat" "I" "IslandCall") ∈ lw_tbl := lw_at lw_m5 194 rfl
theorem q1297 : (Jvm.Cond.fieldLinkNest "IslandCall$Act" (51 : Nat) "IslandCall$Living" "isOver" "Z" "IslandCall") ∈ lw_tbl := lw_at lw_m5 197 rfl
theorem q1330 : (Jvm.Cond.selects "IslandCall$Act" ({ cls := "IslandCall$Step", name := "go", desc := "(LIslandCall$Living;)V" } : Jvm.MethodName) ({ cls := "IslandCall$Step", name := "go", desc := "(LIslandCall$Living;)V" } : Jvm.MethodName)) ∈ lw_all := lw_g (lw_at lw_m5 230 rfl) rfl
theorem q1337 : (Jvm.Cond.selects "IslandCall$Act" ({ cls := "IslandCall$Step", name := "does", desc := "(LIslandCall$Living;)V" } : Jvm.MethodName) ({ cls := "IslandCall$Act", name := "does", desc := "(LIslandCall$Living;)V" } : Jvm.MethodName)) ∈ lw_all := lw_g (lw_at lw_m5 237 rfl) rfl
theorem q1338 : (Jvm.Cond.instanceMethod ({ cls := "IslandCall$Act", name := "does", desc := "(LIslandCall$Living;)V" } : Jvm.MethodName)) ∈ lw_all := lw_g (lw_at lw_m5 238 rfl) rfl
theorem q1339 : (Jvm.Cond.code ({ cls := "IslandCall$Act", name := "does", desc := "(LIslandCall$Living;)V" } : Jvm.MethodName) prog_2_method_7_code (2 : Nat) (Option.none : Option Jvm.ClassFile.FieldType)) ∈ lw_all := lw_g (lw_at lw_m5 239 rfl) rfl
theorem q1340 : (Jvm.Cond.methodLink "IslandCall$Act" (87 : Nat) ({ cls := "IslandCall$Act", name := "can", desc := "(LIslandCall$Living;)Z" } : Jvm.MethodName)) ∈ lw_all := lw_g (lw_at lw_m6 0 rfl) rfl
theorem q1341 : (Jvm.Cond.privateMethod ({ cls := "IslandCall$Act", name := "can", desc := "(LIslandCall$Living;)Z" } : Jvm.MethodName)) ∈ lw_tbl := lw_at lw_m6 1 rfl
theorem q1342 : (Jvm.Cond.instanceMethod ({ cls := "IslandCall$Act", name := "can", desc := "(LIslandCall$Living;)Z" } : Jvm.MethodName)) ∈ lw_all := lw_g (lw_at lw_m6 2 rfl) rfl
theorem q1343 : (Jvm.Cond.code ({ cls := "IslandCall$Act", name := "can", desc := "(LIslandCall$Living;)Z" } : Jvm.MethodName) prog_2_method_2_code (3 : Nat) (Option.some Jvm.ClassFile.FieldType.boolean)) ∈ lw_all := lw_g (lw_at lw_m6 3 rfl) rfl
theorem q1344 : (Jvm.Cond.methodLink "IslandCall$Act" (27 : Nat) ({ cls := "IslandCall$Act", name := "calls", desc := "(LIslandCall$Living;LIslandCall$Boat;)Z" } : Jvm.MethodName)) ∈ lw_all := lw_g (lw_at lw_m6 4 rfl) rfl
theorem q1345 : (Jvm.Cond.static ({ cls := "IslandCall$Act", name := "calls", desc := "(LIslandCall$Living;LIslandCall$Boat;)Z" } : Jvm.MethodName)) ∈ lw_all := lw_g (lw_at lw_m6 5 rfl) rfl
theorem q1346 : (Jvm.Cond.code ({ cls := "IslandCall$Act", name := "calls", desc := "(LIslandCall$Living;LIslandCall$Boat;)Z" } : Jvm.MethodName) prog_2_method_3_code (2 : Nat) (Option.some Jvm.ClassFile.FieldType.boolean)) ∈ lw_all := lw_g (lw_at lw_m6 6 rfl) rfl
theorem q1347 : (Jvm.Cond.methodLink "IslandCall$Act" (61 : Nat) ({ cls := "IslandCall$Boat", name := "call", desc := "()I" } : Jvm.MethodName)) ∈ lw_all := lw_g (lw_at lw_m6 7 rfl) rfl
theorem q1348 : (Jvm.Cond.methodLink "IslandCall$Act" (65 : Nat) ({ cls := "java/lang/Integer", name := "bitCount", desc := "(I)I" } : Jvm.MethodName)) ∈ lw_all := lw_g (lw_at lw_m6 8 rfl) rfl
theorem q1349 : (Jvm.Cond.methodLink "IslandCall$Act" (31 : Nat) ({ cls := "IslandCall$Act", name := "shows", desc := "(LIslandCall$Boat;Z)Z" } : Jvm.MethodName)) ∈ lw_all := lw_g (lw_at lw_m6 9 rfl) rfl
theorem q1350 : (Jvm.Cond.privateMethod ({ cls := "IslandCall$Act", name := "shows", desc := "(LIslandCall$Boat;Z)Z" } : Jvm.MethodName)) ∈ lw_tbl := lw_at lw_m6 10 rfl
theorem q1351 : (Jvm.Cond.instanceMethod ({ cls := "IslandCall$Act", name := "shows", desc := "(LIslandCall$Boat;Z)Z" } : Jvm.MethodName)) ∈ lw_all := lw_g (lw_at lw_m6 11 rfl) rfl
theorem q1352 : (Jvm.Cond.code ({ cls := "IslandCall$Act", name := "shows", desc := "(LIslandCall$Boat;Z)Z" } : Jvm.MethodName) prog_2_method_4_code (3 : Nat) (Option.some Jvm.ClassFile.FieldType.boolean)) ∈ lw_all := lw_g (lw_at lw_m6 12 rfl) rfl
theorem q1353 : (Jvm.Cond.methodLinkNest "IslandCall$Act" (79 : Nat) ({ cls := "IslandCall", name := "has", desc := "(II)Z" } : Jvm.MethodName) "IslandCall") ∈ lw_tbl := lw_at lw_m6 13 rfl
theorem q1354 : (Jvm.Cond.methodLink "IslandCall$Act" (35 : Nat) ({ cls := "IslandCall$Act", name := "boards", desc := "(LIslandCall$Boat;)Z" } : Jvm.MethodName)) ∈ lw_all := lw_g (lw_at lw_m6 14 rfl) rfl
theorem q1355 : (Jvm.Cond.privateMethod ({ cls := "IslandCall$Act", name := "boards", desc := "(LIslandCall$Boat;)Z" } : Jvm.MethodName)) ∈ lw_tbl := lw_at lw_m6 15 rfl
theorem q1356 : (Jvm.Cond.instanceMethod ({ cls := "IslandCall$Act", name := "boards", desc := "(LIslandCall$Boat;)Z" } : Jvm.MethodName)) ∈ lw_all := lw_g (lw_at lw_m6 16 rfl) rfl
theorem q1357 : (Jvm.Cond.code ({ cls := "IslandCall$Act", name := "boards", desc := "(LIslandCall$Boat;)Z" } : Jvm.MethodName) prog_2_method_5_code (2 : Nat) (Option.some Jvm.ClassFile.FieldType.boolean)) ∈ lw_all := lw_g (lw_at lw_m6 17 rfl) rfl
theorem q1358 : (Jvm.Cond.methodLink "IslandCall$Act" (39 : Nat) ({ cls := "IslandCall$Act", name := "sways", desc := "(LIslandCall$Boat;)Z" } : Jvm.MethodName)) ∈ lw_all := lw_g (lw_at lw_m6 18 rfl) rfl
theorem q1359 : (Jvm.Cond.privateMethod ({ cls := "IslandCall$Act", name := "sways", desc := "(LIslandCall$Boat;)Z" } : Jvm.MethodName)) ∈ lw_tbl := lw_at lw_m6 19 rfl
theorem q1360 : (Jvm.Cond.instanceMethod ({ cls := "IslandCall$Act", name := "sways", desc := "(LIslandCall$Boat;)Z" } : Jvm.MethodName)) ∈ lw_all := lw_g (lw_at lw_m6 20 rfl) rfl
theorem q1361 : (Jvm.Cond.code ({ cls := "IslandCall$Act", name := "sways", desc := "(LIslandCall$Boat;)Z" } : Jvm.MethodName) prog_2_method_6_code (2 : Nat) (Option.some Jvm.ClassFile.FieldType.boolean)) ∈ lw_all := lw_g (lw_at lw_m6 21 rfl) rfl
theorem q1362 : (Jvm.Cond.methodLink "IslandCall$Act" (42 : Nat) ({ cls := "IslandCall$Living", name := "draw", desc := "(I)I" } : Jvm.MethodName)) ∈ lw_all := lw_g (lw_at lw_m6 22 rfl) rfl
theorem q2116 : (Jvm.Cond.castable "IslandCall$Act" "IslandCall$Step") ∈ lw_tbl := lw_at lw_m9 56 rfl
theorem in_X12 : ∀ w ∈ wsX120, w ∈ lw_all := lw_in wsX120 [896, 898, 900] (by decide +kernel) (by decide +kernel)

/-! IslandCall$Living -/
set_option maxRecDepth 100000
def RX13 : String := "IslandCall$Living"
def TX13 : u_T := fun k => match k with
  | 0 => ("IslandCall$Living", "boat", "LIslandCall$Boat;", true)
  | 1 => ("IslandCall$Living", "state", "I", false)
  | 2 => ("IslandCall$Living", "done", "I", false)
  | 3 => ("IslandCall$Living", "missed", "I", false)
  | 4 => ("IslandCall$Living", "calls", "I", false)
  | 5 => ("IslandCall$Living", "out", "I", false)
  | 6 => ("IslandCall$Living", "sat", "I", false)
  | 7 => ("IslandCall$Living", "isOver", "Z", false)
  | _ => ("IslandCall$Living", "isLeft", "Z", false)
def tyX13 : Nat → FieldType := fun k => match k with
  | 0 => .object "IslandCall$Boat"
  | 1 => .int
  | 2 => .int
  | 3 => .int
  | 4 => .int
  | 5 => .int
  | 6 => .int
  | 7 => .boolean
  | _ => .boolean
abbrev wsX130 : List Cond := u_ws RX13 TX13 9
theorem nmX13 : ∀ a, a < 9 → ∀ b, b < 9 → a ≠ b → (TX13 a).2.1 ≠ (TX13 b).2.1 := by decide +kernel
theorem tyX13_ok : ∀ k, k < 9 → parseFieldDescriptor (TX13 k).2.2.1 = some (tyX13 k) := by decide +kernel
abbrev cX13_init : ByteArray := prog_7_method_1_code
def yX13_init : MethodName := ⟨RX13, "<init>", "(LIslandCall$Boat;I)V"⟩
def dkwX13_init_0 : List UInt8 := [42, 183, 0, 1, 42, 43, 181, 0, 7, 42, 28, 181, 0, 13, 177]
abbrev dktX13_init_0 : List UInt8 := dkwX13_init_0 ++ []
theorem dksX13_init_0 : cX13_init.data.toList.drop 0 = dktX13_init_0 := by decide +kernel
theorem dX13_init_0 : decode cX13_init 0 = .ok (.aload_n 0, 1) := dk_42 (dk_at dksX13_init_0 0 rfl rfl)
theorem dX13_init_1 : decode cX13_init 1 = .ok (.invokespecial 1, 3) := dk_183 0 1 (dk_at dksX13_init_0 1 rfl rfl)
theorem dX13_init_4 : decode cX13_init 4 = .ok (.aload_n 0, 1) := dk_42 (dk_at dksX13_init_0 4 rfl rfl)
theorem dX13_init_5 : decode cX13_init 5 = .ok (.aload_n 1, 1) := dk_43 (dk_at dksX13_init_0 5 rfl rfl)
theorem dX13_init_6 : decode cX13_init 6 = .ok (.putfield 7, 3) := dk_181 0 7 (dk_at dksX13_init_0 6 rfl rfl)
theorem dX13_init_9 : decode cX13_init 9 = .ok (.aload_n 0, 1) := dk_42 (dk_at dksX13_init_0 9 rfl rfl)
theorem dX13_init_10 : decode cX13_init 10 = .ok (.iload_n 2, 1) := dk_28 (dk_at dksX13_init_0 10 rfl rfl)
theorem dX13_init_11 : decode cX13_init 11 = .ok (.putfield 13, 3) := dk_181 0 13 (dk_at dksX13_init_0 11 rfl rfl)
theorem dX13_init_14 : decode cX13_init 14 = .ok (.return_, 1) := dk_177 (dk_at dksX13_init_0 14 rfl rfl)
abbrev cX13_draw : ByteArray := prog_7_method_2_code
def yX13_draw : MethodName := ⟨RX13, "draw", "(I)I"⟩
def dkwX13_draw_1 : List UInt8 := [16, 8, 108, 27, 112, 172]
abbrev dktX13_draw_1 : List UInt8 := dkwX13_draw_1 ++ []
def dkwX13_draw_0 : List UInt8 := [42, 42, 180, 0, 13, 17, 12, 95, 104, 17, 44, 119, 96, 18, 17, 112, 181, 0, 13, 42, 180, 0, 13]
abbrev dktX13_draw_0 : List UInt8 := dkwX13_draw_0 ++ dktX13_draw_1
theorem dksX13_draw_0 : cX13_draw.data.toList.drop 0 = dktX13_draw_0 := by decide +kernel
theorem dksX13_draw_1 : cX13_draw.data.toList.drop 23 = dktX13_draw_1 := dk_seg dksX13_draw_0 23 rfl rfl
theorem dX13_draw_0 : decode cX13_draw 0 = .ok (.aload_n 0, 1) := dk_42 (dk_at dksX13_draw_0 0 rfl rfl)
theorem dX13_draw_1 : decode cX13_draw 1 = .ok (.aload_n 0, 1) := dk_42 (dk_at dksX13_draw_0 1 rfl rfl)
theorem dX13_draw_2 : decode cX13_draw 2 = .ok (.getfield 13, 3) := dk_180 0 13 (dk_at dksX13_draw_0 2 rfl rfl)
theorem dX13_draw_5 : decode cX13_draw 5 = .ok (.sipush 3167, 3) := dk_17 12 95 (dk_at dksX13_draw_0 5 rfl rfl)
theorem dX13_draw_8 : decode cX13_draw 8 = .ok (.imul, 1) := dk_104 (dk_at dksX13_draw_0 8 rfl rfl)
theorem dX13_draw_9 : decode cX13_draw 9 = .ok (.sipush 11383, 3) := dk_17 44 119 (dk_at dksX13_draw_0 9 rfl rfl)
theorem dX13_draw_12 : decode cX13_draw 12 = .ok (.iadd, 1) := dk_96 (dk_at dksX13_draw_0 12 rfl rfl)
theorem dX13_draw_13 : decode cX13_draw 13 = .ok (.ldc 17, 2) := dk_18 17 (dk_at dksX13_draw_0 13 rfl rfl)
theorem dX13_draw_15 : decode cX13_draw 15 = .ok (.irem, 1) := dk_112 (dk_at dksX13_draw_0 15 rfl rfl)
theorem dX13_draw_16 : decode cX13_draw 16 = .ok (.putfield 13, 3) := dk_181 0 13 (dk_at dksX13_draw_0 16 rfl rfl)
theorem dX13_draw_19 : decode cX13_draw 19 = .ok (.aload_n 0, 1) := dk_42 (dk_at dksX13_draw_0 19 rfl rfl)
theorem dX13_draw_20 : decode cX13_draw 20 = .ok (.getfield 13, 3) := dk_180 0 13 (dk_at dksX13_draw_0 20 rfl rfl)
theorem dX13_draw_23 : decode cX13_draw 23 = .ok (.bipush 8, 2) := dk_16 8 (dk_at dksX13_draw_1 0 rfl rfl)
theorem dX13_draw_25 : decode cX13_draw 25 = .ok (.idiv, 1) := dk_108 (dk_at dksX13_draw_1 2 rfl rfl)
theorem dX13_draw_26 : decode cX13_draw 26 = .ok (.iload_n 1, 1) := dk_27 (dk_at dksX13_draw_1 3 rfl rfl)
theorem dX13_draw_27 : decode cX13_draw 27 = .ok (.irem, 1) := dk_112 (dk_at dksX13_draw_1 4 rfl rfl)
theorem dX13_draw_28 : decode cX13_draw 28 = .ok (.ireturn, 1) := dk_172 (dk_at dksX13_draw_1 5 rfl rfl)
theorem q168 : (Jvm.Cond.initialized "IslandCall$Living") ∈ lw_all := lw_g (lw_at lw_m1 28 rfl) rfl
theorem q1277 : (Jvm.Cond.instantiable "IslandCall$Living" (9 : Nat)) ∈ lw_all := lw_g (lw_at lw_m5 177 rfl) rfl
theorem q1279 : (Jvm.Cond.instanceMethod ({ cls := "IslandCall$Living", name := "<init>", desc := "(LIslandCall$Boat;I)V" } : Jvm.MethodName)) ∈ lw_all := lw_g (lw_at lw_m5 179 rfl) rfl
theorem q1280 : (Jvm.Cond.code ({ cls := "IslandCall$Living", name := "<init>", desc := "(LIslandCall$Boat;I)V" } : Jvm.MethodName) prog_7_method_1_code (3 : Nat) (Option.none : Option Jvm.ClassFile.FieldType)) ∈ lw_all := lw_g (lw_at lw_m5 180 rfl) rfl
theorem q1281 : (Jvm.Cond.methodLink "IslandCall$Living" (1 : Nat) ({ cls := "java/lang/Object", name := "<init>", desc := "()V" } : Jvm.MethodName)) ∈ lw_all := lw_g (lw_at lw_m5 181 rfl) rfl
theorem q1282 : (Jvm.Cond.fieldLink "IslandCall$Living" (7 : Nat) "IslandCall$Living" "boat" "LIslandCall$Boat;") ∈ lw_all := lw_g (lw_at lw_m5 182 rfl) rfl
theorem q1285 : (Jvm.Cond.fieldLink "IslandCall$Living" (13 : Nat) "IslandCall$Living" "state" "I") ∈ lw_all := lw_g (lw_at lw_m5 185 rfl) rfl
theorem q1302 : (Jvm.Cond.laysFinal "IslandCall$Living" "IslandCall$Living" "boat" "LIslandCall$Boat;") ∈ lw_all := lw_g (lw_at lw_m5 202 rfl) rfl
theorem q1303 : (Jvm.Cond.soleField "IslandCall$Living" "boat") ∈ lw_all := lw_g (lw_at lw_m5 203 rfl) rfl
theorem q1304 : (Jvm.Cond.lays "IslandCall$Living" "IslandCall$Living" "state" "I") ∈ lw_all := lw_g (lw_at lw_m5 204 rfl) rfl
theorem q1305 : (Jvm.Cond.soleField "IslandCall$Living" "state") ∈ lw_all := lw_g (lw_at lw_m5 205 rfl) rfl
theorem q1306 : (Jvm.Cond.lays "IslandCall$Living" "IslandCall$Living" "done" "I") ∈ lw_all := lw_g (lw_at lw_m5 206 rfl) rfl
theorem q1307 : (Jvm.Cond.soleField "IslandCall$Living" "done") ∈ lw_all := lw_g (lw_at lw_m5 207 rfl) rfl
theorem q1308 : (Jvm.Cond.lays "IslandCall$Living" "IslandCall$Living" "missed" "I") ∈ lw_all := lw_g (lw_at lw_m5 208 rfl) rfl
theorem q1309 : (Jvm.Cond.soleField "IslandCall$Living" "missed") ∈ lw_all := lw_g (lw_at lw_m5 209 rfl) rfl
theorem q1310 : (Jvm.Cond.lays "IslandCall$Living" "IslandCall$Living" "calls" "I") ∈ lw_all := lw_g (lw_at lw_m5 210 rfl) rfl
theorem q1311 : (Jvm.Cond.soleField "IslandCall$Living" "calls") ∈ lw_all := lw_g (lw_at lw_m5 211 rfl) rfl
theorem q1312 : (Jvm.Cond.lays "IslandCall$Living" "IslandCall$Living" "out" "I") ∈ lw_all := lw_g (lw_at lw_m5 212 rfl) rfl
theorem q1313 : (Jvm.Cond.soleField "IslandCall$Living" "out") ∈ lw_all := lw_g (lw_at lw_m5 213 rfl) rfl
theorem q1314 : (Jvm.Cond.lays "IslandCall$Living" "IslandCall$Living" "sat" "I") ∈ lw_all := lw_g (lw_at lw_m5 214 rfl) rfl
theorem q1315 : (Jvm.Cond.soleField "IslandCall$Living" "sat") ∈ lw_all := lw_g (lw_at lw_m5 215 rfl) rfl
theorem q1316 : (Jvm.Cond.lays "IslandCall$Living" "IslandCall$Living" "isOver" "Z") ∈ lw_all := lw_g (lw_at lw_m5 216 rfl) rfl
theorem q1317 : (Jvm.Cond.soleField "IslandCall$Living" "isOver") ∈ lw_all := lw_g (lw_at lw_m5 217 rfl) rfl
theorem q1318 : (Jvm.Cond.lays "IslandCall$Living" "IslandCall$Living" "isLeft" "Z") ∈ lw_all := lw_g (lw_at lw_m5 218 rfl) rfl
theorem q1319 : (Jvm.Cond.soleField "IslandCall$Living" "isLeft") ∈ lw_all := lw_g (lw_at lw_m5 219 rfl) rfl
theorem q1320 : (Jvm.Cond.superclass "IslandCall$Living" "java/lang/Object") ∈ lw_all := lw_g (lw_at lw_m5 220 rfl) rfl
theorem q1363 : (Jvm.Cond.instanceMethod ({ cls := "IslandCall$Living", name := "draw", desc := "(I)I" } : Jvm.MethodName)) ∈ lw_all := lw_g (lw_at lw_m6 23 rfl) rfl
theorem q1364 : (Jvm.Cond.selects "IslandCall$Living" ({ cls := "IslandCall$Living", name := "draw", desc := "(I)I" } : Jvm.MethodName) ({ cls := "IslandCall$Living", name := "draw", desc := "(I)I" } : Jvm.MethodName)) ∈ lw_all := lw_g (lw_at lw_m6 24 rfl) rfl
theorem q1365 : (Jvm.Cond.code ({ cls := "IslandCall$Living", name := "draw", desc := "(I)I" } : Jvm.MethodName) prog_7_method_2_code (2 : Nat) (Option.some Jvm.ClassFile.FieldType.int)) ∈ lw_all := lw_g (lw_at lw_m6 25 rfl) rfl
theorem q1366 : (Jvm.Cond.constant "IslandCall$Living" (17 : Nat) (65536 : Int32)) ∈ lw_all := lw_g (lw_at lw_m6 26 rfl) rfl
theorem in_X13 : ∀ w ∈ wsX130, w ∈ lw_all := lw_in wsX130 [1302, 1304, 1306, 1308, 1310, 1312, 1314, 1316, 1318] (by decide +kernel) (by decide +kernel)
