/-! WalkingStones$Faulty -/
set_option maxRecDepth 100000
def RX1 : String := "WalkingStones$Faulty"
def TX1 : u_T := fun k => match k with
  | 0 => ("java/lang/Throwable", "cause", "Ljava/lang/Throwable;", false)
  | 1 => ("java/lang/Throwable", "stackTrace", "[Ljava/lang/StackTraceElement;", false)
  | 2 => ("java/lang/Throwable", "suppressedExceptions", "Ljava/util/List;", false)
  | 3 => ("java/lang/Throwable", "detailMessage", "Ljava/lang/String;", false)
  | 4 => ("java/lang/Throwable", "backtrace", "Ljava/lang/Object;", false)
  | _ => ("java/lang/Throwable", "depth", "I", false)
def tyX1 : Nat → FieldType := fun k => match k with
  | 0 => .object "java/lang/Throwable"
  | 1 => .array (.object "java/lang/StackTraceElement")
  | 2 => .object "java/util/List"
  | 3 => .object "java/lang/String"
  | 4 => .object "java/lang/Object"
  | _ => .int
abbrev wsX10 : List Cond := u_ws RX1 TX1 6
theorem nmX1 : ∀ a, a < 6 → ∀ b, b < 6 → a ≠ b → (TX1 a).2.1 ≠ (TX1 b).2.1 := by decide +kernel
theorem tyX1_ok : ∀ k, k < 6 → parseFieldDescriptor (TX1 k).2.2.1 = some (tyX1 k) := by decide +kernel
abbrev cX1_init : ByteArray := prog_2_method_1_code
def yX1_init : MethodName := ⟨RX1, "<init>", "()V"⟩
def dkwX1_init_0 : List UInt8 := [42, 1, 1, 3, 3, 183, 0, 1, 177]
abbrev dktX1_init_0 : List UInt8 := dkwX1_init_0 ++ []
theorem dksX1_init_0 : cX1_init.data.toList.drop 0 = dktX1_init_0 := by decide +kernel
theorem dX1_init_0 : decode cX1_init 0 = .ok (.aload_n 0, 1) := dk_42 (dk_at dksX1_init_0 0 rfl rfl)
theorem dX1_init_1 : decode cX1_init 1 = .ok (.aconst_null, 1) := dk_1 (dk_at dksX1_init_0 1 rfl rfl)
theorem dX1_init_2 : decode cX1_init 2 = .ok (.aconst_null, 1) := dk_1 (dk_at dksX1_init_0 2 rfl rfl)
theorem dX1_init_3 : decode cX1_init 3 = .ok (.iconst 0, 1) := dk_3 (dk_at dksX1_init_0 3 rfl rfl)
theorem dX1_init_4 : decode cX1_init 4 = .ok (.iconst 0, 1) := dk_3 (dk_at dksX1_init_0 4 rfl rfl)
theorem dX1_init_5 : decode cX1_init 5 = .ok (.invokespecial 1, 3) := dk_183 0 1 (dk_at dksX1_init_0 5 rfl rfl)
theorem dX1_init_8 : decode cX1_init 8 = .ok (.return_, 1) := dk_177 (dk_at dksX1_init_0 8 rfl rfl)
theorem q110 : (Jvm.Cond.initialized "WalkingStones$Faulty") ∈ lw_all := lw_g (lw_at lw_m1 5 rfl) rfl
theorem q644 : (Jvm.Cond.instantiable "WalkingStones$Faulty" (6 : Nat)) ∈ lw_all := lw_g (lw_at lw_m3 59 rfl) rfl
theorem q645 : (Jvm.Cond.castable "WalkingStones$Faulty" "WalkingStones$Faulty") ∈ lw_tbl := lw_at lw_m3 60 rfl
theorem q652 : (Jvm.Cond.selects "WalkingStones$Faulty" ({ cls := "java/lang/Throwable", name := "fillInStackTrace", desc := "(I)Ljava/lang/Throwable;" } : Jvm.MethodName) ({ cls := "java/lang/Throwable", name := "fillInStackTrace", desc := "(I)Ljava/lang/Throwable;" } : Jvm.MethodName)) ∈ lw_all := lw_g (lw_at lw_m3 67 rfl) rfl
theorem q653 : (Jvm.Cond.selects "WalkingStones$Faulty" ({ cls := "java/lang/Throwable", name := "fillInStackTrace", desc := "()Ljava/lang/Throwable;" } : Jvm.MethodName) ({ cls := "java/lang/Throwable", name := "fillInStackTrace", desc := "()Ljava/lang/Throwable;" } : Jvm.MethodName)) ∈ lw_all := lw_g (lw_at lw_m3 68 rfl) rfl
theorem q654 : (Jvm.Cond.lays "WalkingStones$Faulty" "java/lang/Throwable" "cause" "Ljava/lang/Throwable;") ∈ lw_all := lw_g (lw_at lw_m3 69 rfl) rfl
theorem q656 : (Jvm.Cond.lays "WalkingStones$Faulty" "java/lang/Throwable" "stackTrace" "[Ljava/lang/StackTraceElement;") ∈ lw_all := lw_g (lw_at lw_m3 71 rfl) rfl
theorem q658 : (Jvm.Cond.lays "WalkingStones$Faulty" "java/lang/Throwable" "suppressedExceptions" "Ljava/util/List;") ∈ lw_all := lw_g (lw_at lw_m3 73 rfl) rfl
theorem q660 : (Jvm.Cond.lays "WalkingStones$Faulty" "java/lang/Throwable" "detailMessage" "Ljava/lang/String;") ∈ lw_all := lw_g (lw_at lw_m3 75 rfl) rfl
theorem q662 : (Jvm.Cond.lays "WalkingStones$Faulty" "java/lang/Throwable" "backtrace" "Ljava/lang/Object;") ∈ lw_all := lw_g (lw_at lw_m3 77 rfl) rfl
theorem q701 : (Jvm.Cond.instanceMethod ({ cls := "WalkingStones$Faulty", name := "<init>", desc := "()V" } : Jvm.MethodName)) ∈ lw_all := lw_g (lw_at lw_m3 116 rfl) rfl
theorem q702 : (Jvm.Cond.code ({ cls := "WalkingStones$Faulty", name := "<init>", desc := "()V" } : Jvm.MethodName) prog_2_method_1_code (1 : Nat) (Option.none : Option Jvm.ClassFile.FieldType)) ∈ lw_all := lw_g (lw_at lw_m3 117 rfl) rfl
theorem q703 : (Jvm.Cond.methodLink "WalkingStones$Faulty" (1 : Nat) ({ cls := "java/lang/RuntimeException", name := "<init>", desc := "(Ljava/lang/String;Ljava/lang/Throwable;ZZ)V" } : Jvm.MethodName)) ∈ lw_all := lw_g (lw_at lw_m3 118 rfl) rfl
theorem q721 : (Jvm.Cond.lays "WalkingStones$Faulty" "java/lang/Throwable" "depth" "I") ∈ lw_all := lw_g (lw_at lw_m3 136 rfl) rfl
theorem q724 : (Jvm.Cond.superclass "WalkingStones$Faulty" "java/lang/RuntimeException") ∈ lw_all := lw_g (lw_at lw_m3 139 rfl) rfl
theorem in_X1 : ∀ w ∈ wsX10, w ∈ lw_all := lw_in wsX10 [654, 656, 658, 660, 662, 721] (by decide +kernel) (by decide +kernel)
/-! WalkingStones$Sheet -/
set_option maxRecDepth 100000
def RX2 : String := "WalkingStones$Sheet"
def TX2 : u_T := fun k => match k with
  | _ => ("WalkingStones$Sheet", "row", "Ljava/lang/Object;", false)
def tyX2 : Nat → FieldType := fun k => match k with
  | _ => .object "java/lang/Object"
abbrev wsX20 : List Cond := u_ws RX2 TX2 1
theorem nmX2 : ∀ a, a < 1 → ∀ b, b < 1 → a ≠ b → (TX2 a).2.1 ≠ (TX2 b).2.1 := by decide +kernel
theorem tyX2_ok : ∀ k, k < 1 → parseFieldDescriptor (TX2 k).2.2.1 = some (tyX2 k) := by decide +kernel
abbrev cX2_init : ByteArray := prog_10_method_1_code
def yX2_init : MethodName := ⟨RX2, "<init>", "()V"⟩
theorem dX2_init_0 : decode cX2_init 0 = .ok (.aload_n 0, 1) := by decide +kernel
theorem dX2_init_1 : decode cX2_init 1 = .ok (.invokespecial 1, 3) := by decide +kernel
theorem dX2_init_4 : decode cX2_init 4 = .ok (.return_, 1) := by decide +kernel
theorem q111 : (Jvm.Cond.initialized "WalkingStones$Sheet") ∈ lw_all := lw_g (lw_at lw_m1 6 rfl) rfl
theorem q744 : (Jvm.Cond.instantiable "WalkingStones$Sheet" (1 : Nat)) ∈ lw_all := lw_g (lw_at lw_m3 159 rfl) rfl
theorem q746 : (Jvm.Cond.instanceMethod ({ cls := "WalkingStones$Sheet", name := "<init>", desc := "()V" } : Jvm.MethodName)) ∈ lw_all := lw_g (lw_at lw_m3 161 rfl) rfl
theorem q747 : (Jvm.Cond.code ({ cls := "WalkingStones$Sheet", name := "<init>", desc := "()V" } : Jvm.MethodName) prog_10_method_1_code (1 : Nat) (Option.none : Option Jvm.ClassFile.FieldType)) ∈ lw_all := lw_g (lw_at lw_m3 162 rfl) rfl
theorem q748 : (Jvm.Cond.methodLink "WalkingStones$Sheet" (1 : Nat) ({ cls := "java/lang/Object", name := "<init>", desc := "()V" } : Jvm.MethodName)) ∈ lw_all := lw_g (lw_at lw_m3 163 rfl) rfl
theorem q750 : (Jvm.Cond.lays "WalkingStones$Sheet" "WalkingStones$Sheet" "row" "Ljava/lang/Object;") ∈ lw_all := lw_g (lw_at lw_m3 165 rfl) rfl
theorem q751 : (Jvm.Cond.soleField "WalkingStones$Sheet" "row") ∈ lw_all := lw_g (lw_at lw_m3 166 rfl) rfl
theorem q752 : (Jvm.Cond.superclass "WalkingStones$Sheet" "java/lang/Object") ∈ lw_all := lw_g (lw_at lw_m3 167 rfl) rfl
theorem in_X2 : ∀ w ∈ wsX20, w ∈ lw_all := lw_in wsX20 [750] (by decide +kernel) (by decide +kernel)
/-! WalkingStones$Node -/
set_option maxRecDepth 100000
def RX3 : String := "WalkingStones$Node"
abbrev cX3_init : ByteArray := prog_6_method_1_code
def yX3_init : MethodName := ⟨RX3, "<init>", "()V"⟩
theorem dX3_init_0 : decode cX3_init 0 = .ok (.aload_n 0, 1) := by decide +kernel
theorem dX3_init_1 : decode cX3_init 1 = .ok (.invokespecial 1, 3) := by decide +kernel
theorem dX3_init_4 : decode cX3_init 4 = .ok (.return_, 1) := by decide +kernel
theorem q118 : (Jvm.Cond.initialized "WalkingStones$Node") ∈ lw_all := lw_g (lw_at lw_m1 13 rfl) rfl
theorem q370 : (Jvm.Cond.declares ({ cls := "WalkingStones$Node", name := "worth", desc := "()I" } : Jvm.MethodName)) ∈ lw_tbl := lw_at lw_m2 25 rfl
theorem q371 : (Jvm.Cond.sameMethod "WalkingStones$Node" "WalkingStones$Node" "worth" "()I") ∈ lw_all := lw_g (lw_at lw_m2 26 rfl) rfl
theorem q572 : (Jvm.Cond.instanceMethod ({ cls := "WalkingStones$Node", name := "<init>", desc := "()V" } : Jvm.MethodName)) ∈ lw_all := lw_g (lw_at lw_m2 227 rfl) rfl
theorem q573 : (Jvm.Cond.code ({ cls := "WalkingStones$Node", name := "<init>", desc := "()V" } : Jvm.MethodName) prog_6_method_1_code (1 : Nat) (Option.none : Option Jvm.ClassFile.FieldType)) ∈ lw_all := lw_g (lw_at lw_m2 228 rfl) rfl
theorem q574 : (Jvm.Cond.methodLink "WalkingStones$Node" (1 : Nat) ({ cls := "java/lang/Object", name := "<init>", desc := "()V" } : Jvm.MethodName)) ∈ lw_all := lw_g (lw_at lw_m2 229 rfl) rfl
/-! WalkingStones$Turned -/
set_option maxRecDepth 100000
def RX4 : String := "WalkingStones$Turned"
def TX4 : u_T := fun k => match k with
  | 0 => ("WalkingStones$Turned", "of", "LWalkingStones$Node;", true)
  | _ => ("WalkingStones$Turned", "isMinus", "Z", true)
def tyX4 : Nat → FieldType := fun k => match k with
  | 0 => .object "WalkingStones$Node"
  | _ => .boolean
abbrev wsX40 : List Cond := u_ws RX4 TX4 2
theorem nmX4 : ∀ a, a < 2 → ∀ b, b < 2 → a ≠ b → (TX4 a).2.1 ≠ (TX4 b).2.1 := by decide +kernel
theorem tyX4_ok : ∀ k, k < 2 → parseFieldDescriptor (TX4 k).2.2.1 = some (tyX4 k) := by decide +kernel
abbrev cX4_worth : ByteArray := prog_12_method_2_code
def yX4_worth : MethodName := ⟨RX4, "worth", "()I"⟩
def dkwX4_worth_1 : List UInt8 := [4, 167, 0, 4, 3, 172]
abbrev dktX4_worth_1 : List UInt8 := dkwX4_worth_1 ++ []
def dkwX4_worth_0 : List UInt8 := [42, 180, 0, 7, 182, 0, 17, 60, 42, 180, 0, 13, 153, 0, 8, 27, 116, 167, 0, 12, 27, 154, 0, 7]
abbrev dktX4_worth_0 : List UInt8 := dkwX4_worth_0 ++ dktX4_worth_1
theorem dksX4_worth_0 : cX4_worth.data.toList.drop 0 = dktX4_worth_0 := by decide +kernel
theorem dksX4_worth_1 : cX4_worth.data.toList.drop 24 = dktX4_worth_1 := dk_seg dksX4_worth_0 24 rfl rfl
theorem dX4_worth_0 : decode cX4_worth 0 = .ok (.aload_n 0, 1) := dk_42 (dk_at dksX4_worth_0 0 rfl rfl)
theorem dX4_worth_1 : decode cX4_worth 1 = .ok (.getfield 7, 3) := dk_180 0 7 (dk_at dksX4_worth_0 1 rfl rfl)
theorem dX4_worth_4 : decode cX4_worth 4 = .ok (.invokevirtual 17, 3) := dk_182 0 17 (dk_at dksX4_worth_0 4 rfl rfl)
theorem dX4_worth_7 : decode cX4_worth 7 = .ok (.istore_n 1, 1) := dk_60 (dk_at dksX4_worth_0 7 rfl rfl)
theorem dX4_worth_8 : decode cX4_worth 8 = .ok (.aload_n 0, 1) := dk_42 (dk_at dksX4_worth_0 8 rfl rfl)
theorem dX4_worth_9 : decode cX4_worth 9 = .ok (.getfield 13, 3) := dk_180 0 13 (dk_at dksX4_worth_0 9 rfl rfl)
theorem dX4_worth_12 : decode cX4_worth 12 = .ok (.ifCond .eq 8, 3) := dk_153 0 8 (dk_at dksX4_worth_0 12 rfl rfl)
theorem dX4_worth_15 : decode cX4_worth 15 = .ok (.iload_n 1, 1) := dk_27 (dk_at dksX4_worth_0 15 rfl rfl)
theorem dX4_worth_16 : decode cX4_worth 16 = .ok (.ineg, 1) := dk_116 (dk_at dksX4_worth_0 16 rfl rfl)
theorem dX4_worth_17 : decode cX4_worth 17 = .ok (.goto 12, 3) := dk_167 0 12 (dk_at dksX4_worth_0 17 rfl rfl)
theorem dX4_worth_20 : decode cX4_worth 20 = .ok (.iload_n 1, 1) := dk_27 (dk_at dksX4_worth_0 20 rfl rfl)
theorem dX4_worth_21 : decode cX4_worth 21 = .ok (.ifCond .ne 7, 3) := dk_154 0 7 (dk_at dksX4_worth_0 21 rfl rfl)
theorem dX4_worth_24 : decode cX4_worth 24 = .ok (.iconst 1, 1) := dk_4 (dk_at dksX4_worth_1 0 rfl rfl)
theorem dX4_worth_25 : decode cX4_worth 25 = .ok (.goto 4, 3) := dk_167 0 4 (dk_at dksX4_worth_1 1 rfl rfl)
theorem dX4_worth_28 : decode cX4_worth 28 = .ok (.iconst 0, 1) := dk_3 (dk_at dksX4_worth_1 4 rfl rfl)
theorem dX4_worth_29 : decode cX4_worth 29 = .ok (.ireturn, 1) := dk_172 (dk_at dksX4_worth_1 5 rfl rfl)
abbrev cX4_init : ByteArray := prog_12_method_1_code
def yX4_init : MethodName := ⟨RX4, "<init>", "(LWalkingStones$Node;Z)V"⟩
def dkwX4_init_0 : List UInt8 := [42, 183, 0, 1, 42, 43, 181, 0, 7, 42, 28, 181, 0, 13, 177]
abbrev dktX4_init_0 : List UInt8 := dkwX4_init_0 ++ []
theorem dksX4_init_0 : cX4_init.data.toList.drop 0 = dktX4_init_0 := by decide +kernel
theorem dX4_init_0 : decode cX4_init 0 = .ok (.aload_n 0, 1) := dk_42 (dk_at dksX4_init_0 0 rfl rfl)
theorem dX4_init_1 : decode cX4_init 1 = .ok (.invokespecial 1, 3) := dk_183 0 1 (dk_at dksX4_init_0 1 rfl rfl)
theorem dX4_init_4 : decode cX4_init 4 = .ok (.aload_n 0, 1) := dk_42 (dk_at dksX4_init_0 4 rfl rfl)
theorem dX4_init_5 : decode cX4_init 5 = .ok (.aload_n 1, 1) := dk_43 (dk_at dksX4_init_0 5 rfl rfl)
theorem dX4_init_6 : decode cX4_init 6 = .ok (.putfield 7, 3) := dk_181 0 7 (dk_at dksX4_init_0 6 rfl rfl)
theorem dX4_init_9 : decode cX4_init 9 = .ok (.aload_n 0, 1) := dk_42 (dk_at dksX4_init_0 9 rfl rfl)
theorem dX4_init_10 : decode cX4_init 10 = .ok (.iload_n 2, 1) := dk_28 (dk_at dksX4_init_0 10 rfl rfl)
theorem dX4_init_11 : decode cX4_init 11 = .ok (.putfield 13, 3) := dk_181 0 13 (dk_at dksX4_init_0 11 rfl rfl)
theorem dX4_init_14 : decode cX4_init 14 = .ok (.return_, 1) := dk_177 (dk_at dksX4_init_0 14 rfl rfl)
theorem q119 : (Jvm.Cond.initialized "WalkingStones$Turned") ∈ lw_all := lw_g (lw_at lw_m1 14 rfl) rfl
theorem q378 : (Jvm.Cond.selects "WalkingStones$Turned" ({ cls := "WalkingStones$Node", name := "worth", desc := "()I" } : Jvm.MethodName) ({ cls := "WalkingStones$Turned", name := "worth", desc := "()I" } : Jvm.MethodName)) ∈ lw_all := lw_g (lw_at lw_m2 33 rfl) rfl
theorem q379 : (Jvm.Cond.instanceMethod ({ cls := "WalkingStones$Turned", name := "worth", desc := "()I" } : Jvm.MethodName)) ∈ lw_all := lw_g (lw_at lw_m2 34 rfl) rfl
theorem q380 : (Jvm.Cond.code ({ cls := "WalkingStones$Turned", name := "worth", desc := "()I" } : Jvm.MethodName) prog_12_method_2_code (2 : Nat) (Option.some Jvm.ClassFile.FieldType.int)) ∈ lw_all := lw_g (lw_at lw_m2 35 rfl) rfl
theorem q381 : (Jvm.Cond.methodLink "WalkingStones$Turned" (17 : Nat) ({ cls := "WalkingStones$Node", name := "worth", desc := "()I" } : Jvm.MethodName)) ∈ lw_all := lw_g (lw_at lw_m2 36 rfl) rfl
theorem q567 : (Jvm.Cond.instantiable "WalkingStones$Turned" (2 : Nat)) ∈ lw_all := lw_g (lw_at lw_m2 222 rfl) rfl
theorem q569 : (Jvm.Cond.instanceMethod ({ cls := "WalkingStones$Turned", name := "<init>", desc := "(LWalkingStones$Node;Z)V" } : Jvm.MethodName)) ∈ lw_all := lw_g (lw_at lw_m2 224 rfl) rfl
theorem q570 : (Jvm.Cond.code ({ cls := "WalkingStones$Turned", name := "<init>", desc := "(LWalkingStones$Node;Z)V" } : Jvm.MethodName) prog_12_method_1_code (3 : Nat) (Option.none : Option Jvm.ClassFile.FieldType)) ∈ lw_all := lw_g (lw_at lw_m2 225 rfl) rfl
theorem q571 : (Jvm.Cond.methodLinkNest "WalkingStones$Turned" (1 : Nat) ({ cls := "WalkingStones$Node", name := "<init>", desc := "()V" } : Jvm.MethodName) "WalkingStones") ∈ lw_tbl := lw_at lw_m2 226 rfl
theorem q575 : (Jvm.Cond.fieldLink "WalkingStones$Turned" (7 : Nat) "WalkingStones$Turned" "of" "LWalkingStones$Node;") ∈ lw_all := lw_g (lw_at lw_m2 230 rfl) rfl
theorem q576 : (Jvm.Cond.fieldLink "WalkingStones$Turned" (13 : Nat) "WalkingStones$Turned" "isMinus" "Z") ∈ lw_all := lw_g (lw_at lw_m2 231 rfl) rfl
theorem q577 : (Jvm.Cond.laysFinal "WalkingStones$Turned" "WalkingStones$Turned" "of" "LWalkingStones$Node;") ∈ lw_all := lw_g (lw_at lw_m2 232 rfl) rfl
theorem q578 : (Jvm.Cond.soleField "WalkingStones$Turned" "of") ∈ lw_all := lw_g (lw_at lw_m2 233 rfl) rfl
theorem q579 : (Jvm.Cond.laysFinal "WalkingStones$Turned" "WalkingStones$Turned" "isMinus" "Z") ∈ lw_all := lw_g (lw_at lw_m2 234 rfl) rfl
theorem q580 : (Jvm.Cond.soleField "WalkingStones$Turned" "isMinus") ∈ lw_all := lw_g (lw_at lw_m2 235 rfl) rfl
theorem q581 : (Jvm.Cond.superclass "WalkingStones$Turned" "WalkingStones$Node") ∈ lw_all := lw_g (lw_at lw_m2 236 rfl) rfl
theorem q1835 : (Jvm.Cond.castable "WalkingStones$Turned" "WalkingStones$Node") ∈ lw_tbl := lw_at lw_m8 50 rfl
theorem in_X4 : ∀ w ∈ wsX40, w ∈ lw_all := lw_in wsX40 [577, 579] (by decide +kernel) (by decide +kernel)
/-! WalkingStones$Number -/
set_option maxRecDepth 100000
def RX5 : String := "WalkingStones$Number"
def TX5 : u_T := fun k => match k with
  | _ => ("WalkingStones$Number", "v", "I", true)
def tyX5 : Nat → FieldType := fun k => match k with
  | _ => .int
abbrev wsX50 : List Cond := u_ws RX5 TX5 1
theorem nmX5 : ∀ a, a < 1 → ∀ b, b < 1 → a ≠ b → (TX5 a).2.1 ≠ (TX5 b).2.1 := by decide +kernel
theorem tyX5_ok : ∀ k, k < 1 → parseFieldDescriptor (TX5 k).2.2.1 = some (tyX5 k) := by decide +kernel
abbrev cX5_worth : ByteArray := prog_7_method_2_code
def yX5_worth : MethodName := ⟨RX5, "worth", "()I"⟩
theorem dX5_worth_0 : decode cX5_worth 0 = .ok (.aload_n 0, 1) := by decide +kernel
theorem dX5_worth_1 : decode cX5_worth 1 = .ok (.getfield 7, 3) := by decide +kernel
theorem dX5_worth_4 : decode cX5_worth 4 = .ok (.ireturn, 1) := by decide +kernel
abbrev cX5_init : ByteArray := prog_7_method_1_code
def yX5_init : MethodName := ⟨RX5, "<init>", "(I)V"⟩
def dkwX5_init_0 : List UInt8 := [42, 183, 0, 1, 42, 27, 181, 0, 7, 177]
abbrev dktX5_init_0 : List UInt8 := dkwX5_init_0 ++ []
theorem dksX5_init_0 : cX5_init.data.toList.drop 0 = dktX5_init_0 := by decide +kernel
theorem dX5_init_0 : decode cX5_init 0 = .ok (.aload_n 0, 1) := dk_42 (dk_at dksX5_init_0 0 rfl rfl)
theorem dX5_init_1 : decode cX5_init 1 = .ok (.invokespecial 1, 3) := dk_183 0 1 (dk_at dksX5_init_0 1 rfl rfl)
theorem dX5_init_4 : decode cX5_init 4 = .ok (.aload_n 0, 1) := dk_42 (dk_at dksX5_init_0 4 rfl rfl)
theorem dX5_init_5 : decode cX5_init 5 = .ok (.iload_n 1, 1) := dk_27 (dk_at dksX5_init_0 5 rfl rfl)
theorem dX5_init_6 : decode cX5_init 6 = .ok (.putfield 7, 3) := dk_181 0 7 (dk_at dksX5_init_0 6 rfl rfl)
theorem dX5_init_9 : decode cX5_init 9 = .ok (.return_, 1) := dk_177 (dk_at dksX5_init_0 9 rfl rfl)
theorem q120 : (Jvm.Cond.initialized "WalkingStones$Number") ∈ lw_all := lw_g (lw_at lw_m1 15 rfl) rfl
theorem q375 : (Jvm.Cond.selects "WalkingStones$Number" ({ cls := "WalkingStones$Node", name := "worth", desc := "()I" } : Jvm.MethodName) ({ cls := "WalkingStones$Number", name := "worth", desc := "()I" } : Jvm.MethodName)) ∈ lw_all := lw_g (lw_at lw_m2 30 rfl) rfl
theorem q376 : (Jvm.Cond.instanceMethod ({ cls := "WalkingStones$Number", name := "worth", desc := "()I" } : Jvm.MethodName)) ∈ lw_all := lw_g (lw_at lw_m2 31 rfl) rfl
theorem q377 : (Jvm.Cond.code ({ cls := "WalkingStones$Number", name := "worth", desc := "()I" } : Jvm.MethodName) prog_7_method_2_code (1 : Nat) (Option.some Jvm.ClassFile.FieldType.int)) ∈ lw_all := lw_g (lw_at lw_m2 32 rfl) rfl
theorem q596 : (Jvm.Cond.instantiable "WalkingStones$Number" (1 : Nat)) ∈ lw_all := lw_g (lw_at lw_m3 11 rfl) rfl
theorem q598 : (Jvm.Cond.instanceMethod ({ cls := "WalkingStones$Number", name := "<init>", desc := "(I)V" } : Jvm.MethodName)) ∈ lw_all := lw_g (lw_at lw_m3 13 rfl) rfl
theorem q599 : (Jvm.Cond.code ({ cls := "WalkingStones$Number", name := "<init>", desc := "(I)V" } : Jvm.MethodName) prog_7_method_1_code (2 : Nat) (Option.none : Option Jvm.ClassFile.FieldType)) ∈ lw_all := lw_g (lw_at lw_m3 14 rfl) rfl
theorem q600 : (Jvm.Cond.methodLinkNest "WalkingStones$Number" (1 : Nat) ({ cls := "WalkingStones$Node", name := "<init>", desc := "()V" } : Jvm.MethodName) "WalkingStones") ∈ lw_tbl := lw_at lw_m3 15 rfl
theorem q601 : (Jvm.Cond.fieldLink "WalkingStones$Number" (7 : Nat) "WalkingStones$Number" "v" "I") ∈ lw_all := lw_g (lw_at lw_m3 16 rfl) rfl
theorem q602 : (Jvm.Cond.laysFinal "WalkingStones$Number" "WalkingStones$Number" "v" "I") ∈ lw_all := lw_g (lw_at lw_m3 17 rfl) rfl
theorem q603 : (Jvm.Cond.soleField "WalkingStones$Number" "v") ∈ lw_all := lw_g (lw_at lw_m3 18 rfl) rfl
theorem q604 : (Jvm.Cond.superclass "WalkingStones$Number" "WalkingStones$Node") ∈ lw_all := lw_g (lw_at lw_m3 19 rfl) rfl
theorem q1836 : (Jvm.Cond.castable "WalkingStones$Number" "WalkingStones$Node") ∈ lw_tbl := lw_at lw_m8 51 rfl
theorem in_X5 : ∀ w ∈ wsX50, w ∈ lw_all := lw_in wsX50 [602] (by decide +kernel) (by decide +kernel)
/-! WalkingStones$Name -/
set_option maxRecDepth 100000
def RX6 : String := "WalkingStones$Name"
def TX6 : u_T := fun k => match k with
  | 0 => ("WalkingStones$Name", "which", "I", true)
  | _ => ("WalkingStones$Name", "this$0", "LWalkingStones;", true)
def tyX6 : Nat → FieldType := fun k => match k with
  | 0 => .int
  | _ => .object "WalkingStones"
abbrev wsX60 : List Cond := u_ws RX6 TX6 2
theorem nmX6 : ∀ a, a < 2 → ∀ b, b < 2 → a ≠ b → (TX6 a).2.1 ≠ (TX6 b).2.1 := by decide +kernel
theorem tyX6_ok : ∀ k, k < 2 → parseFieldDescriptor (TX6 k).2.2.1 = some (tyX6 k) := by decide +kernel
abbrev cX6_worth : ByteArray := prog_5_method_2_code
def yX6_worth : MethodName := ⟨RX6, "worth", "()I"⟩
def dkwX6_worth_4 : List UInt8 := [180, 0, 1, 180, 0, 26, 46, 172, 42, 180, 0, 1, 180, 0, 35, 172, 42, 180, 0, 1, 180, 0, 26, 172]
abbrev dktX6_worth_4 : List UInt8 := dkwX6_worth_4 ++ []
def dkwX6_worth_3 : List UInt8 := [42, 180, 0, 1, 180, 0, 29, 42, 180, 0, 1, 180, 0, 26, 46, 172, 42, 180, 0, 1, 180, 0, 32, 42]
abbrev dktX6_worth_3 : List UInt8 := dkwX6_worth_3 ++ dktX6_worth_4
def dkwX6_worth_2 : List UInt8 := [42, 180, 0, 1, 180, 0, 17, 172, 42, 180, 0, 1, 180, 0, 22, 42, 180, 0, 1, 180, 0, 26, 46, 172]
abbrev dktX6_worth_2 : List UInt8 := dkwX6_worth_2 ++ dktX6_worth_3
def dkwX6_worth_1 : List UInt8 := [170, 0, 0, 0, 0, 0, 0, 100, 0, 0, 0, 0, 0, 0, 0, 4, 0, 0, 0, 36, 0, 0, 0, 44, 0, 0, 0, 60, 0, 0, 0, 76, 0, 0, 0, 92]
abbrev dktX6_worth_1 : List UInt8 := dkwX6_worth_1 ++ dktX6_worth_2
def dkwX6_worth_0 : List UInt8 := [42, 180, 0, 13]
abbrev dktX6_worth_0 : List UInt8 := dkwX6_worth_0 ++ dktX6_worth_1
theorem dksX6_worth_0 : cX6_worth.data.toList.drop 0 = dktX6_worth_0 := by decide +kernel
theorem dksX6_worth_1 : cX6_worth.data.toList.drop 4 = dktX6_worth_1 := dk_seg dksX6_worth_0 4 rfl rfl
theorem dksX6_worth_2 : cX6_worth.data.toList.drop 40 = dktX6_worth_2 := dk_seg dksX6_worth_1 36 rfl rfl
theorem dksX6_worth_3 : cX6_worth.data.toList.drop 64 = dktX6_worth_3 := dk_seg dksX6_worth_2 24 rfl rfl
theorem dksX6_worth_4 : cX6_worth.data.toList.drop 88 = dktX6_worth_4 := dk_seg dksX6_worth_3 24 rfl rfl
theorem dX6_worth_0 : decode cX6_worth 0 = .ok (.aload_n 0, 1) := dk_42 (dk_at dksX6_worth_0 0 rfl rfl)
theorem dX6_worth_1 : decode cX6_worth 1 = .ok (.getfield 13, 3) := dk_180 0 13 (dk_at dksX6_worth_0 1 rfl rfl)
theorem dX6_worth_4 : decode cX6_worth 4 = .ok (.tableswitch 100 0 4 #[36, 44, 60, 76, 92], 36) := by decide +kernel
theorem dX6_worth_40 : decode cX6_worth 40 = .ok (.aload_n 0, 1) := dk_42 (dk_at dksX6_worth_2 0 rfl rfl)
theorem dX6_worth_41 : decode cX6_worth 41 = .ok (.getfield 1, 3) := dk_180 0 1 (dk_at dksX6_worth_2 1 rfl rfl)
theorem dX6_worth_44 : decode cX6_worth 44 = .ok (.getfield 17, 3) := dk_180 0 17 (dk_at dksX6_worth_2 4 rfl rfl)
theorem dX6_worth_47 : decode cX6_worth 47 = .ok (.ireturn, 1) := dk_172 (dk_at dksX6_worth_2 7 rfl rfl)
theorem dX6_worth_48 : decode cX6_worth 48 = .ok (.aload_n 0, 1) := dk_42 (dk_at dksX6_worth_2 8 rfl rfl)
theorem dX6_worth_49 : decode cX6_worth 49 = .ok (.getfield 1, 3) := dk_180 0 1 (dk_at dksX6_worth_2 9 rfl rfl)
theorem dX6_worth_52 : decode cX6_worth 52 = .ok (.getfield 22, 3) := dk_180 0 22 (dk_at dksX6_worth_2 12 rfl rfl)
theorem dX6_worth_55 : decode cX6_worth 55 = .ok (.aload_n 0, 1) := dk_42 (dk_at dksX6_worth_2 15 rfl rfl)
theorem dX6_worth_56 : decode cX6_worth 56 = .ok (.getfield 1, 3) := dk_180 0 1 (dk_at dksX6_worth_2 16 rfl rfl)
theorem dX6_worth_59 : decode cX6_worth 59 = .ok (.getfield 26, 3) := dk_180 0 26 (dk_at dksX6_worth_2 19 rfl rfl)
theorem dX6_worth_62 : decode cX6_worth 62 = .ok (.iaload, 1) := dk_46 (dk_at dksX6_worth_2 22 rfl rfl)
theorem dX6_worth_63 : decode cX6_worth 63 = .ok (.ireturn, 1) := dk_172 (dk_at dksX6_worth_2 23 rfl rfl)
theorem dX6_worth_64 : decode cX6_worth 64 = .ok (.aload_n 0, 1) := dk_42 (dk_at dksX6_worth_3 0 rfl rfl)
theorem dX6_worth_65 : decode cX6_worth 65 = .ok (.getfield 1, 3) := dk_180 0 1 (dk_at dksX6_worth_3 1 rfl rfl)
theorem dX6_worth_68 : decode cX6_worth 68 = .ok (.getfield 29, 3) := dk_180 0 29 (dk_at dksX6_worth_3 4 rfl rfl)
theorem dX6_worth_71 : decode cX6_worth 71 = .ok (.aload_n 0, 1) := dk_42 (dk_at dksX6_worth_3 7 rfl rfl)
theorem dX6_worth_72 : decode cX6_worth 72 = .ok (.getfield 1, 3) := dk_180 0 1 (dk_at dksX6_worth_3 8 rfl rfl)
theorem dX6_worth_75 : decode cX6_worth 75 = .ok (.getfield 26, 3) := dk_180 0 26 (dk_at dksX6_worth_3 11 rfl rfl)
theorem dX6_worth_78 : decode cX6_worth 78 = .ok (.iaload, 1) := dk_46 (dk_at dksX6_worth_3 14 rfl rfl)
theorem dX6_worth_79 : decode cX6_worth 79 = .ok (.ireturn, 1) := dk_172 (dk_at dksX6_worth_3 15 rfl rfl)
theorem dX6_worth_80 : decode cX6_worth 80 = .ok (.aload_n 0, 1) := dk_42 (dk_at dksX6_worth_3 16 rfl rfl)
theorem dX6_worth_81 : decode cX6_worth 81 = .ok (.getfield 1, 3) := dk_180 0 1 (dk_at dksX6_worth_3 17 rfl rfl)
theorem dX6_worth_84 : decode cX6_worth 84 = .ok (.getfield 32, 3) := dk_180 0 32 (dk_at dksX6_worth_3 20 rfl rfl)
theorem dX6_worth_87 : decode cX6_worth 87 = .ok (.aload_n 0, 1) := dk_42 (dk_at dksX6_worth_3 23 rfl rfl)
theorem dX6_worth_88 : decode cX6_worth 88 = .ok (.getfield 1, 3) := dk_180 0 1 (dk_at dksX6_worth_4 0 rfl rfl)
theorem dX6_worth_91 : decode cX6_worth 91 = .ok (.getfield 26, 3) := dk_180 0 26 (dk_at dksX6_worth_4 3 rfl rfl)
theorem dX6_worth_94 : decode cX6_worth 94 = .ok (.iaload, 1) := dk_46 (dk_at dksX6_worth_4 6 rfl rfl)
theorem dX6_worth_95 : decode cX6_worth 95 = .ok (.ireturn, 1) := dk_172 (dk_at dksX6_worth_4 7 rfl rfl)
theorem dX6_worth_96 : decode cX6_worth 96 = .ok (.aload_n 0, 1) := dk_42 (dk_at dksX6_worth_4 8 rfl rfl)
theorem dX6_worth_97 : decode cX6_worth 97 = .ok (.getfield 1, 3) := dk_180 0 1 (dk_at dksX6_worth_4 9 rfl rfl)
theorem dX6_worth_100 : decode cX6_worth 100 = .ok (.getfield 35, 3) := dk_180 0 35 (dk_at dksX6_worth_4 12 rfl rfl)
theorem dX6_worth_103 : decode cX6_worth 103 = .ok (.ireturn, 1) := dk_172 (dk_at dksX6_worth_4 15 rfl rfl)
theorem dX6_worth_104 : decode cX6_worth 104 = .ok (.aload_n 0, 1) := dk_42 (dk_at dksX6_worth_4 16 rfl rfl)
theorem dX6_worth_105 : decode cX6_worth 105 = .ok (.getfield 1, 3) := dk_180 0 1 (dk_at dksX6_worth_4 17 rfl rfl)
theorem dX6_worth_108 : decode cX6_worth 108 = .ok (.getfield 26, 3) := dk_180 0 26 (dk_at dksX6_worth_4 20 rfl rfl)
theorem dX6_worth_111 : decode cX6_worth 111 = .ok (.ireturn, 1) := dk_172 (dk_at dksX6_worth_4 23 rfl rfl)
abbrev cX6_init : ByteArray := prog_5_method_1_code
def yX6_init : MethodName := ⟨RX6, "<init>", "(LWalkingStones;I)V"⟩
def dkwX6_init_0 : List UInt8 := [42, 43, 181, 0, 1, 42, 183, 0, 7, 42, 28, 181, 0, 13, 177]
abbrev dktX6_init_0 : List UInt8 := dkwX6_init_0 ++ []
theorem dksX6_init_0 : cX6_init.data.toList.drop 0 = dktX6_init_0 := by decide +kernel
theorem dX6_init_0 : decode cX6_init 0 = .ok (.aload_n 0, 1) := dk_42 (dk_at dksX6_init_0 0 rfl rfl)
theorem dX6_init_1 : decode cX6_init 1 = .ok (.aload_n 1, 1) := dk_43 (dk_at dksX6_init_0 1 rfl rfl)
theorem dX6_init_2 : decode cX6_init 2 = .ok (.putfield 1, 3) := dk_181 0 1 (dk_at dksX6_init_0 2 rfl rfl)
theorem dX6_init_5 : decode cX6_init 5 = .ok (.aload_n 0, 1) := dk_42 (dk_at dksX6_init_0 5 rfl rfl)
theorem dX6_init_6 : decode cX6_init 6 = .ok (.invokespecial 7, 3) := dk_183 0 7 (dk_at dksX6_init_0 6 rfl rfl)
theorem dX6_init_9 : decode cX6_init 9 = .ok (.aload_n 0, 1) := dk_42 (dk_at dksX6_init_0 9 rfl rfl)
theorem dX6_init_10 : decode cX6_init 10 = .ok (.iload_n 2, 1) := dk_28 (dk_at dksX6_init_0 10 rfl rfl)
theorem dX6_init_11 : decode cX6_init 11 = .ok (.putfield 13, 3) := dk_181 0 13 (dk_at dksX6_init_0 11 rfl rfl)
theorem dX6_init_14 : decode cX6_init 14 = .ok (.return_, 1) := dk_177 (dk_at dksX6_init_0 14 rfl rfl)
theorem q121 : (Jvm.Cond.initialized "WalkingStones$Name") ∈ lw_all := lw_g (lw_at lw_m1 16 rfl) rfl
theorem q372 : (Jvm.Cond.selects "WalkingStones$Name" ({ cls := "WalkingStones$Node", name := "worth", desc := "()I" } : Jvm.MethodName) ({ cls := "WalkingStones$Name", name := "worth", desc := "()I" } : Jvm.MethodName)) ∈ lw_all := lw_g (lw_at lw_m2 27 rfl) rfl
theorem q373 : (Jvm.Cond.instanceMethod ({ cls := "WalkingStones$Name", name := "worth", desc := "()I" } : Jvm.MethodName)) ∈ lw_all := lw_g (lw_at lw_m2 28 rfl) rfl
theorem q374 : (Jvm.Cond.code ({ cls := "WalkingStones$Name", name := "worth", desc := "()I" } : Jvm.MethodName) prog_5_method_2_code (1 : Nat) (Option.some Jvm.ClassFile.FieldType.int)) ∈ lw_all := lw_g (lw_at lw_m2 29 rfl) rfl
theorem q606 : (Jvm.Cond.instantiable "WalkingStones$Name" (2 : Nat)) ∈ lw_all := lw_g (lw_at lw_m3 21 rfl) rfl
theorem q608 : (Jvm.Cond.instanceMethod ({ cls := "WalkingStones$Name", name := "<init>", desc := "(LWalkingStones;I)V" } : Jvm.MethodName)) ∈ lw_all := lw_g (lw_at lw_m3 23 rfl) rfl
theorem q609 : (Jvm.Cond.code ({ cls := "WalkingStones$Name", name := "<init>", desc := "(LWalkingStones;I)V" } : Jvm.MethodName) prog_5_method_1_code (3 : Nat) (Option.none : Option Jvm.ClassFile.FieldType)) ∈ lw_all := lw_g (lw_at lw_m3 24 rfl) rfl
theorem q610 : (Jvm.Cond.methodLinkNest "WalkingStones$Name" (7 : Nat) ({ cls := "WalkingStones$Node", name := "<init>", desc := "()V" } : Jvm.MethodName) "WalkingStones") ∈ lw_tbl := lw_at lw_m3 25 rfl
theorem q611 : (Jvm.Cond.fieldLink "WalkingStones$Name" (13 : Nat) "WalkingStones$Name" "which" "I") ∈ lw_all := lw_g (lw_at lw_m3 26 rfl) rfl
theorem q612 : (Jvm.Cond.fieldLink "WalkingStones$Name" (1 : Nat) "WalkingStones$Name" "this$0" "LWalkingStones;") ∈ lw_all := lw_g (lw_at lw_m3 27 rfl) rfl
theorem q613 : (Jvm.Cond.laysFinal "WalkingStones$Name" "WalkingStones$Name" "which" "I") ∈ lw_all := lw_g (lw_at lw_m3 28 rfl) rfl
theorem q614 : (Jvm.Cond.soleField "WalkingStones$Name" "which") ∈ lw_all := lw_g (lw_at lw_m3 29 rfl) rfl
theorem q615 : (Jvm.Cond.laysFinal "WalkingStones$Name" "WalkingStones$Name" "this$0" "LWalkingStones;") ∈ lw_all := lw_g (lw_at lw_m3 30 rfl) rfl
theorem q616 : (Jvm.Cond.soleField "WalkingStones$Name" "this$0") ∈ lw_all := lw_g (lw_at lw_m3 31 rfl) rfl
theorem q617 : (Jvm.Cond.superclass "WalkingStones$Name" "WalkingStones$Node") ∈ lw_all := lw_g (lw_at lw_m3 32 rfl) rfl
theorem q761 : (Jvm.Cond.fieldLinkNest "WalkingStones$Name" (22 : Nat) "WalkingStones" "wet" "[I" "WalkingStones") ∈ lw_tbl := lw_at lw_m3 176 rfl
theorem q764 : (Jvm.Cond.fieldLinkNest "WalkingStones$Name" (29 : Nat) "WalkingStones" "ice" "[I" "WalkingStones") ∈ lw_tbl := lw_at lw_m3 179 rfl
theorem q769 : (Jvm.Cond.fieldLinkNest "WalkingStones$Name" (32 : Nat) "WalkingStones" "wind" "[I" "WalkingStones") ∈ lw_tbl := lw_at lw_m3 184 rfl
theorem q778 : (Jvm.Cond.fieldLinkNest "WalkingStones$Name" (17 : Nat) "WalkingStones" "forWeight" "I" "WalkingStones") ∈ lw_tbl := lw_at lw_m3 193 rfl
theorem q780 : (Jvm.Cond.fieldLinkNest "WalkingStones$Name" (35 : Nat) "WalkingStones" "forNumber" "I" "WalkingStones") ∈ lw_tbl := lw_at lw_m3 195 rfl
theorem q782 : (Jvm.Cond.fieldLinkNest "WalkingStones$Name" (26 : Nat) "WalkingStones" "forNight" "I" "WalkingStones") ∈ lw_tbl := lw_at lw_m3 197 rfl
theorem q1837 : (Jvm.Cond.castable "WalkingStones$Name" "WalkingStones$Node") ∈ lw_tbl := lw_at lw_m8 52 rfl
theorem in_X6 : ∀ w ∈ wsX60, w ∈ lw_all := lw_in wsX60 [613, 615] (by decide +kernel) (by decide +kernel)
/-! WalkingStones$Two -/
set_option maxRecDepth 100000
def RX7 : String := "WalkingStones$Two"
def TX7 : u_T := fun k => match k with
  | 0 => ("WalkingStones$Two", "sign", "I", true)
  | 1 => ("WalkingStones$Two", "a", "LWalkingStones$Node;", true)
  | _ => ("WalkingStones$Two", "b", "LWalkingStones$Node;", true)
def tyX7 : Nat → FieldType := fun k => match k with
  | 0 => .int
  | 1 => .object "WalkingStones$Node"
  | _ => .object "WalkingStones$Node"
abbrev wsX70 : List Cond := u_ws RX7 TX7 3
theorem nmX7 : ∀ a, a < 3 → ∀ b, b < 3 → a ≠ b → (TX7 a).2.1 ≠ (TX7 b).2.1 := by decide +kernel
theorem tyX7_ok : ∀ k, k < 3 → parseFieldDescriptor (TX7 k).2.2.1 = some (tyX7 k) := by decide +kernel
abbrev cX7_worth : ByteArray := prog_13_method_2_code
def yX7_worth : MethodName := ⟨RX7, "worth", "()I"⟩
def dkwX7_worth_4 : List UInt8 := [27, 154, 0, 7, 28, 153, 0, 7, 4, 167, 0, 4, 3, 172]
abbrev dktX7_worth_4 : List UInt8 := dkwX7_worth_4 ++ []
def dkwX7_worth_3 : List UInt8 := [28, 160, 0, 7, 4, 167, 0, 4, 3, 172, 27, 153, 0, 11, 28, 153, 0, 7, 4, 167, 0, 4, 3, 172]
abbrev dktX7_worth_3 : List UInt8 := dkwX7_worth_3 ++ dktX7_worth_4
def dkwX7_worth_2 : List UInt8 := [27, 28, 96, 172, 27, 28, 100, 172, 27, 28, 104, 172, 27, 28, 162, 0, 7, 4, 167, 0, 4, 3, 172, 27]
abbrev dktX7_worth_2 : List UInt8 := dkwX7_worth_2 ++ dktX7_worth_3
def dkwX7_worth_1 : List UInt8 := [171, 0, 0, 0, 0, 0, 0, 108, 0, 0, 0, 6, 0, 0, 0, 38, 0, 0, 0, 94, 0, 0, 0, 42, 0, 0, 0, 68, 0, 0, 0, 43, 0, 0, 0, 60, 0, 0, 0, 45, 0, 0, 0, 64, 0, 0, 0, 60, 0, 0, 0, 72, 0, 0, 0, 61, 0, 0, 0, 83]
abbrev dktX7_worth_1 : List UInt8 := dkwX7_worth_1 ++ dktX7_worth_2
def dkwX7_worth_0 : List UInt8 := [42, 180, 0, 13, 182, 0, 20, 60, 42, 180, 0, 17, 182, 0, 20, 61, 42, 180, 0, 7]
abbrev dktX7_worth_0 : List UInt8 := dkwX7_worth_0 ++ dktX7_worth_1
theorem dksX7_worth_0 : cX7_worth.data.toList.drop 0 = dktX7_worth_0 := by decide +kernel
theorem dksX7_worth_1 : cX7_worth.data.toList.drop 20 = dktX7_worth_1 := dk_seg dksX7_worth_0 20 rfl rfl
theorem dksX7_worth_2 : cX7_worth.data.toList.drop 80 = dktX7_worth_2 := dk_seg dksX7_worth_1 60 rfl rfl
theorem dksX7_worth_3 : cX7_worth.data.toList.drop 104 = dktX7_worth_3 := dk_seg dksX7_worth_2 24 rfl rfl
theorem dksX7_worth_4 : cX7_worth.data.toList.drop 128 = dktX7_worth_4 := dk_seg dksX7_worth_3 24 rfl rfl
theorem dX7_worth_0 : decode cX7_worth 0 = .ok (.aload_n 0, 1) := dk_42 (dk_at dksX7_worth_0 0 rfl rfl)
theorem dX7_worth_1 : decode cX7_worth 1 = .ok (.getfield 13, 3) := dk_180 0 13 (dk_at dksX7_worth_0 1 rfl rfl)
theorem dX7_worth_4 : decode cX7_worth 4 = .ok (.invokevirtual 20, 3) := dk_182 0 20 (dk_at dksX7_worth_0 4 rfl rfl)
theorem dX7_worth_7 : decode cX7_worth 7 = .ok (.istore_n 1, 1) := dk_60 (dk_at dksX7_worth_0 7 rfl rfl)
theorem dX7_worth_8 : decode cX7_worth 8 = .ok (.aload_n 0, 1) := dk_42 (dk_at dksX7_worth_0 8 rfl rfl)
theorem dX7_worth_9 : decode cX7_worth 9 = .ok (.getfield 17, 3) := dk_180 0 17 (dk_at dksX7_worth_0 9 rfl rfl)
theorem dX7_worth_12 : decode cX7_worth 12 = .ok (.invokevirtual 20, 3) := dk_182 0 20 (dk_at dksX7_worth_0 12 rfl rfl)
theorem dX7_worth_15 : decode cX7_worth 15 = .ok (.istore_n 2, 1) := dk_61 (dk_at dksX7_worth_0 15 rfl rfl)
theorem dX7_worth_16 : decode cX7_worth 16 = .ok (.aload_n 0, 1) := dk_42 (dk_at dksX7_worth_0 16 rfl rfl)
theorem dX7_worth_17 : decode cX7_worth 17 = .ok (.getfield 7, 3) := dk_180 0 7 (dk_at dksX7_worth_0 17 rfl rfl)
theorem dX7_worth_20 : decode cX7_worth 20 = .ok (.lookupswitch 108 #[(38, 94), (42, 68), (43, 60), (45, 64), (60, 72), (61, 83)], 60) := by decide +kernel
theorem dX7_worth_80 : decode cX7_worth 80 = .ok (.iload_n 1, 1) := dk_27 (dk_at dksX7_worth_2 0 rfl rfl)
theorem dX7_worth_81 : decode cX7_worth 81 = .ok (.iload_n 2, 1) := dk_28 (dk_at dksX7_worth_2 1 rfl rfl)
theorem dX7_worth_82 : decode cX7_worth 82 = .ok (.iadd, 1) := dk_96 (dk_at dksX7_worth_2 2 rfl rfl)
theorem dX7_worth_83 : decode cX7_worth 83 = .ok (.ireturn, 1) := dk_172 (dk_at dksX7_worth_2 3 rfl rfl)
theorem dX7_worth_84 : decode cX7_worth 84 = .ok (.iload_n 1, 1) := dk_27 (dk_at dksX7_worth_2 4 rfl rfl)
theorem dX7_worth_85 : decode cX7_worth 85 = .ok (.iload_n 2, 1) := dk_28 (dk_at dksX7_worth_2 5 rfl rfl)
theorem dX7_worth_86 : decode cX7_worth 86 = .ok (.isub, 1) := dk_100 (dk_at dksX7_worth_2 6 rfl rfl)
theorem dX7_worth_87 : decode cX7_worth 87 = .ok (.ireturn, 1) := dk_172 (dk_at dksX7_worth_2 7 rfl rfl)
theorem dX7_worth_88 : decode cX7_worth 88 = .ok (.iload_n 1, 1) := dk_27 (dk_at dksX7_worth_2 8 rfl rfl)
theorem dX7_worth_89 : decode cX7_worth 89 = .ok (.iload_n 2, 1) := dk_28 (dk_at dksX7_worth_2 9 rfl rfl)
theorem dX7_worth_90 : decode cX7_worth 90 = .ok (.imul, 1) := dk_104 (dk_at dksX7_worth_2 10 rfl rfl)
theorem dX7_worth_91 : decode cX7_worth 91 = .ok (.ireturn, 1) := dk_172 (dk_at dksX7_worth_2 11 rfl rfl)
theorem dX7_worth_92 : decode cX7_worth 92 = .ok (.iload_n 1, 1) := dk_27 (dk_at dksX7_worth_2 12 rfl rfl)
theorem dX7_worth_93 : decode cX7_worth 93 = .ok (.iload_n 2, 1) := dk_28 (dk_at dksX7_worth_2 13 rfl rfl)
theorem dX7_worth_94 : decode cX7_worth 94 = .ok (.if_icmp .ge 7, 3) := dk_162 0 7 (dk_at dksX7_worth_2 14 rfl rfl)
theorem dX7_worth_97 : decode cX7_worth 97 = .ok (.iconst 1, 1) := dk_4 (dk_at dksX7_worth_2 17 rfl rfl)
theorem dX7_worth_98 : decode cX7_worth 98 = .ok (.goto 4, 3) := dk_167 0 4 (dk_at dksX7_worth_2 18 rfl rfl)
theorem dX7_worth_101 : decode cX7_worth 101 = .ok (.iconst 0, 1) := dk_3 (dk_at dksX7_worth_2 21 rfl rfl)
theorem dX7_worth_102 : decode cX7_worth 102 = .ok (.ireturn, 1) := dk_172 (dk_at dksX7_worth_2 22 rfl rfl)
theorem dX7_worth_103 : decode cX7_worth 103 = .ok (.iload_n 1, 1) := dk_27 (dk_at dksX7_worth_2 23 rfl rfl)
theorem dX7_worth_104 : decode cX7_worth 104 = .ok (.iload_n 2, 1) := dk_28 (dk_at dksX7_worth_3 0 rfl rfl)
theorem dX7_worth_105 : decode cX7_worth 105 = .ok (.if_icmp .ne 7, 3) := dk_160 0 7 (dk_at dksX7_worth_3 1 rfl rfl)
theorem dX7_worth_108 : decode cX7_worth 108 = .ok (.iconst 1, 1) := dk_4 (dk_at dksX7_worth_3 4 rfl rfl)
theorem dX7_worth_109 : decode cX7_worth 109 = .ok (.goto 4, 3) := dk_167 0 4 (dk_at dksX7_worth_3 5 rfl rfl)
theorem dX7_worth_112 : decode cX7_worth 112 = .ok (.iconst 0, 1) := dk_3 (dk_at dksX7_worth_3 8 rfl rfl)
theorem dX7_worth_113 : decode cX7_worth 113 = .ok (.ireturn, 1) := dk_172 (dk_at dksX7_worth_3 9 rfl rfl)
theorem dX7_worth_114 : decode cX7_worth 114 = .ok (.iload_n 1, 1) := dk_27 (dk_at dksX7_worth_3 10 rfl rfl)
theorem dX7_worth_115 : decode cX7_worth 115 = .ok (.ifCond .eq 11, 3) := dk_153 0 11 (dk_at dksX7_worth_3 11 rfl rfl)
theorem dX7_worth_118 : decode cX7_worth 118 = .ok (.iload_n 2, 1) := dk_28 (dk_at dksX7_worth_3 14 rfl rfl)
theorem dX7_worth_119 : decode cX7_worth 119 = .ok (.ifCond .eq 7, 3) := dk_153 0 7 (dk_at dksX7_worth_3 15 rfl rfl)
theorem dX7_worth_122 : decode cX7_worth 122 = .ok (.iconst 1, 1) := dk_4 (dk_at dksX7_worth_3 18 rfl rfl)
theorem dX7_worth_123 : decode cX7_worth 123 = .ok (.goto 4, 3) := dk_167 0 4 (dk_at dksX7_worth_3 19 rfl rfl)
theorem dX7_worth_126 : decode cX7_worth 126 = .ok (.iconst 0, 1) := dk_3 (dk_at dksX7_worth_3 22 rfl rfl)
theorem dX7_worth_127 : decode cX7_worth 127 = .ok (.ireturn, 1) := dk_172 (dk_at dksX7_worth_3 23 rfl rfl)
theorem dX7_worth_128 : decode cX7_worth 128 = .ok (.iload_n 1, 1) := dk_27 (dk_at dksX7_worth_4 0 rfl rfl)
theorem dX7_worth_129 : decode cX7_worth 129 = .ok (.ifCond .ne 7, 3) := dk_154 0 7 (dk_at dksX7_worth_4 1 rfl rfl)
theorem dX7_worth_132 : decode cX7_worth 132 = .ok (.iload_n 2, 1) := dk_28 (dk_at dksX7_worth_4 4 rfl rfl)
theorem dX7_worth_133 : decode cX7_worth 133 = .ok (.ifCond .eq 7, 3) := dk_153 0 7 (dk_at dksX7_worth_4 5 rfl rfl)
theorem dX7_worth_136 : decode cX7_worth 136 = .ok (.iconst 1, 1) := dk_4 (dk_at dksX7_worth_4 8 rfl rfl)
theorem dX7_worth_137 : decode cX7_worth 137 = .ok (.goto 4, 3) := dk_167 0 4 (dk_at dksX7_worth_4 9 rfl rfl)
theorem dX7_worth_140 : decode cX7_worth 140 = .ok (.iconst 0, 1) := dk_3 (dk_at dksX7_worth_4 12 rfl rfl)
theorem dX7_worth_141 : decode cX7_worth 141 = .ok (.ireturn, 1) := dk_172 (dk_at dksX7_worth_4 13 rfl rfl)
abbrev cX7_init : ByteArray := prog_13_method_1_code
def yX7_init : MethodName := ⟨RX7, "<init>", "(ILWalkingStones$Node;LWalkingStones$Node;)V"⟩
def dkwX7_init_0 : List UInt8 := [42, 183, 0, 1, 42, 27, 181, 0, 7, 42, 44, 181, 0, 13, 42, 45, 181, 0, 17, 177]
abbrev dktX7_init_0 : List UInt8 := dkwX7_init_0 ++ []
theorem dksX7_init_0 : cX7_init.data.toList.drop 0 = dktX7_init_0 := by decide +kernel
theorem dX7_init_0 : decode cX7_init 0 = .ok (.aload_n 0, 1) := dk_42 (dk_at dksX7_init_0 0 rfl rfl)
theorem dX7_init_1 : decode cX7_init 1 = .ok (.invokespecial 1, 3) := dk_183 0 1 (dk_at dksX7_init_0 1 rfl rfl)
theorem dX7_init_4 : decode cX7_init 4 = .ok (.aload_n 0, 1) := dk_42 (dk_at dksX7_init_0 4 rfl rfl)
theorem dX7_init_5 : decode cX7_init 5 = .ok (.iload_n 1, 1) := dk_27 (dk_at dksX7_init_0 5 rfl rfl)
theorem dX7_init_6 : decode cX7_init 6 = .ok (.putfield 7, 3) := dk_181 0 7 (dk_at dksX7_init_0 6 rfl rfl)
theorem dX7_init_9 : decode cX7_init 9 = .ok (.aload_n 0, 1) := dk_42 (dk_at dksX7_init_0 9 rfl rfl)
theorem dX7_init_10 : decode cX7_init 10 = .ok (.aload_n 2, 1) := dk_44 (dk_at dksX7_init_0 10 rfl rfl)
theorem dX7_init_11 : decode cX7_init 11 = .ok (.putfield 13, 3) := dk_181 0 13 (dk_at dksX7_init_0 11 rfl rfl)
theorem dX7_init_14 : decode cX7_init 14 = .ok (.aload_n 0, 1) := dk_42 (dk_at dksX7_init_0 14 rfl rfl)
theorem dX7_init_15 : decode cX7_init 15 = .ok (.aload_n 3, 1) := dk_45 (dk_at dksX7_init_0 15 rfl rfl)
theorem dX7_init_16 : decode cX7_init 16 = .ok (.putfield 17, 3) := dk_181 0 17 (dk_at dksX7_init_0 16 rfl rfl)
theorem dX7_init_19 : decode cX7_init 19 = .ok (.return_, 1) := dk_177 (dk_at dksX7_init_0 19 rfl rfl)
theorem q122 : (Jvm.Cond.initialized "WalkingStones$Two") ∈ lw_all := lw_g (lw_at lw_m1 17 rfl) rfl
theorem q382 : (Jvm.Cond.instanceMethod ({ cls := "WalkingStones$Two", name := "worth", desc := "()I" } : Jvm.MethodName)) ∈ lw_all := lw_g (lw_at lw_m2 37 rfl) rfl
theorem q383 : (Jvm.Cond.code ({ cls := "WalkingStones$Two", name := "worth", desc := "()I" } : Jvm.MethodName) prog_13_method_2_code (3 : Nat) (Option.some Jvm.ClassFile.FieldType.int)) ∈ lw_all := lw_g (lw_at lw_m2 38 rfl) rfl
theorem q384 : (Jvm.Cond.methodLink "WalkingStones$Two" (20 : Nat) ({ cls := "WalkingStones$Node", name := "worth", desc := "()I" } : Jvm.MethodName)) ∈ lw_all := lw_g (lw_at lw_m2 39 rfl) rfl
theorem q385 : (Jvm.Cond.selects "WalkingStones$Two" ({ cls := "WalkingStones$Node", name := "worth", desc := "()I" } : Jvm.MethodName) ({ cls := "WalkingStones$Two", name := "worth", desc := "()I" } : Jvm.MethodName)) ∈ lw_all := lw_g (lw_at lw_m2 40 rfl) rfl
theorem q623 : (Jvm.Cond.instantiable "WalkingStones$Two" (3 : Nat)) ∈ lw_all := lw_g (lw_at lw_m3 38 rfl) rfl
theorem q625 : (Jvm.Cond.instanceMethod ({ cls := "WalkingStones$Two", name := "<init>", desc := "(ILWalkingStones$Node;LWalkingStones$Node;)V" } : Jvm.MethodName)) ∈ lw_all := lw_g (lw_at lw_m3 40 rfl) rfl
theorem q626 : (Jvm.Cond.code ({ cls := "WalkingStones$Two", name := "<init>", desc := "(ILWalkingStones$Node;LWalkingStones$Node;)V" } : Jvm.MethodName) prog_13_method_1_code (4 : Nat) (Option.none : Option Jvm.ClassFile.FieldType)) ∈ lw_all := lw_g (lw_at lw_m3 41 rfl) rfl
theorem q627 : (Jvm.Cond.methodLinkNest "WalkingStones$Two" (1 : Nat) ({ cls := "WalkingStones$Node", name := "<init>", desc := "()V" } : Jvm.MethodName) "WalkingStones") ∈ lw_tbl := lw_at lw_m3 42 rfl
theorem q628 : (Jvm.Cond.fieldLink "WalkingStones$Two" (7 : Nat) "WalkingStones$Two" "sign" "I") ∈ lw_all := lw_g (lw_at lw_m3 43 rfl) rfl
theorem q629 : (Jvm.Cond.fieldLink "WalkingStones$Two" (13 : Nat) "WalkingStones$Two" "a" "LWalkingStones$Node;") ∈ lw_all := lw_g (lw_at lw_m3 44 rfl) rfl
theorem q630 : (Jvm.Cond.fieldLink "WalkingStones$Two" (17 : Nat) "WalkingStones$Two" "b" "LWalkingStones$Node;") ∈ lw_all := lw_g (lw_at lw_m3 45 rfl) rfl
theorem q631 : (Jvm.Cond.laysFinal "WalkingStones$Two" "WalkingStones$Two" "sign" "I") ∈ lw_all := lw_g (lw_at lw_m3 46 rfl) rfl
theorem q632 : (Jvm.Cond.soleField "WalkingStones$Two" "sign") ∈ lw_all := lw_g (lw_at lw_m3 47 rfl) rfl
theorem q633 : (Jvm.Cond.laysFinal "WalkingStones$Two" "WalkingStones$Two" "a" "LWalkingStones$Node;") ∈ lw_all := lw_g (lw_at lw_m3 48 rfl) rfl
theorem q634 : (Jvm.Cond.soleField "WalkingStones$Two" "a") ∈ lw_all := lw_g (lw_at lw_m3 49 rfl) rfl
theorem q635 : (Jvm.Cond.laysFinal "WalkingStones$Two" "WalkingStones$Two" "b" "LWalkingStones$Node;") ∈ lw_all := lw_g (lw_at lw_m3 50 rfl) rfl
theorem q636 : (Jvm.Cond.soleField "WalkingStones$Two" "b") ∈ lw_all := lw_g (lw_at lw_m3 51 rfl) rfl
theorem q637 : (Jvm.Cond.superclass "WalkingStones$Two" "WalkingStones$Node") ∈ lw_all := lw_g (lw_at lw_m3 52 rfl) rfl
theorem q1838 : (Jvm.Cond.castable "WalkingStones$Two" "WalkingStones$Node") ∈ lw_tbl := lw_at lw_m8 53 rfl
theorem in_X7 : ∀ w ∈ wsX70, w ∈ lw_all := lw_in wsX70 [631, 633, 635] (by decide +kernel) (by decide +kernel)
/-! WalkingStones$How -/
set_option maxRecDepth 100000
def RX9 : String := "WalkingStones$How"
def TX9 : u_T := fun k => match k with
  | 0 => ("WalkingStones$How", "number", "I", true)
  | _ => ("WalkingStones$How", "this$0", "LWalkingStones;", true)
def tyX9 : Nat → FieldType := fun k => match k with
  | 0 => .int
  | _ => .object "WalkingStones"
abbrev wsX90 : List Cond := u_ws RX9 TX9 2
theorem nmX9 : ∀ a, a < 2 → ∀ b, b < 2 → a ≠ b → (TX9 a).2.1 ≠ (TX9 b).2.1 := by decide +kernel
theorem tyX9_ok : ∀ k, k < 2 → parseFieldDescriptor (TX9 k).2.2.1 = some (tyX9 k) := by decide +kernel
abbrev cX9_init : ByteArray := prog_4_method_1_code
def yX9_init : MethodName := ⟨RX9, "<init>", "(LWalkingStones;I)V"⟩
def dkwX9_init_0 : List UInt8 := [42, 43, 181, 0, 3, 42, 183, 0, 9, 42, 28, 181, 0, 15, 177]
abbrev dktX9_init_0 : List UInt8 := dkwX9_init_0 ++ []
theorem dksX9_init_0 : cX9_init.data.toList.drop 0 = dktX9_init_0 := by decide +kernel
theorem dX9_init_0 : decode cX9_init 0 = .ok (.aload_n 0, 1) := dk_42 (dk_at dksX9_init_0 0 rfl rfl)
theorem dX9_init_1 : decode cX9_init 1 = .ok (.aload_n 1, 1) := dk_43 (dk_at dksX9_init_0 1 rfl rfl)
theorem dX9_init_2 : decode cX9_init 2 = .ok (.putfield 3, 3) := dk_181 0 3 (dk_at dksX9_init_0 2 rfl rfl)
theorem dX9_init_5 : decode cX9_init 5 = .ok (.aload_n 0, 1) := dk_42 (dk_at dksX9_init_0 5 rfl rfl)
theorem dX9_init_6 : decode cX9_init 6 = .ok (.invokespecial 9, 3) := dk_183 0 9 (dk_at dksX9_init_0 6 rfl rfl)
theorem dX9_init_9 : decode cX9_init 9 = .ok (.aload_n 0, 1) := dk_42 (dk_at dksX9_init_0 9 rfl rfl)
theorem dX9_init_10 : decode cX9_init 10 = .ok (.iload_n 2, 1) := dk_28 (dk_at dksX9_init_0 10 rfl rfl)
theorem dX9_init_11 : decode cX9_init 11 = .ok (.putfield 15, 3) := dk_181 0 15 (dk_at dksX9_init_0 11 rfl rfl)
theorem dX9_init_14 : decode cX9_init 14 = .ok (.return_, 1) := dk_177 (dk_at dksX9_init_0 14 rfl rfl)
abbrev cX9_isWet : ByteArray := prog_4_method_3_code
def yX9_isWet : MethodName := ⟨RX9, "isWet", "(I)Z"⟩
def dkwX9_isWet_0 : List UInt8 := [42, 180, 0, 3, 180, 0, 19, 27, 46, 153, 0, 7, 4, 167, 0, 4, 3, 172]
abbrev dktX9_isWet_0 : List UInt8 := dkwX9_isWet_0 ++ []
theorem dksX9_isWet_0 : cX9_isWet.data.toList.drop 0 = dktX9_isWet_0 := by decide +kernel
theorem dX9_isWet_0 : decode cX9_isWet 0 = .ok (.aload_n 0, 1) := dk_42 (dk_at dksX9_isWet_0 0 rfl rfl)
theorem dX9_isWet_1 : decode cX9_isWet 1 = .ok (.getfield 3, 3) := dk_180 0 3 (dk_at dksX9_isWet_0 1 rfl rfl)
theorem dX9_isWet_4 : decode cX9_isWet 4 = .ok (.getfield 19, 3) := dk_180 0 19 (dk_at dksX9_isWet_0 4 rfl rfl)
theorem dX9_isWet_7 : decode cX9_isWet 7 = .ok (.iload_n 1, 1) := dk_27 (dk_at dksX9_isWet_0 7 rfl rfl)
theorem dX9_isWet_8 : decode cX9_isWet 8 = .ok (.iaload, 1) := dk_46 (dk_at dksX9_isWet_0 8 rfl rfl)
theorem dX9_isWet_9 : decode cX9_isWet 9 = .ok (.ifCond .eq 7, 3) := dk_153 0 7 (dk_at dksX9_isWet_0 9 rfl rfl)
theorem dX9_isWet_12 : decode cX9_isWet 12 = .ok (.iconst 1, 1) := dk_4 (dk_at dksX9_isWet_0 12 rfl rfl)
theorem dX9_isWet_13 : decode cX9_isWet 13 = .ok (.goto 4, 3) := dk_167 0 4 (dk_at dksX9_isWet_0 13 rfl rfl)
theorem dX9_isWet_16 : decode cX9_isWet 16 = .ok (.iconst 0, 1) := dk_3 (dk_at dksX9_isWet_0 16 rfl rfl)
theorem dX9_isWet_17 : decode cX9_isWet 17 = .ok (.ireturn, 1) := dk_172 (dk_at dksX9_isWet_0 17 rfl rfl)
abbrev cX9_may : ByteArray := prog_4_method_4_code
def yX9_may : MethodName := ⟨RX9, "may", "(I)Z"⟩
def dkwX9_may_0 : List UInt8 := [42, 27, 182, 0, 23, 172]
abbrev dktX9_may_0 : List UInt8 := dkwX9_may_0 ++ []
theorem dksX9_may_0 : cX9_may.data.toList.drop 0 = dktX9_may_0 := by decide +kernel
theorem dX9_may_0 : decode cX9_may 0 = .ok (.aload_n 0, 1) := dk_42 (dk_at dksX9_may_0 0 rfl rfl)
theorem dX9_may_1 : decode cX9_may 1 = .ok (.iload_n 1, 1) := dk_27 (dk_at dksX9_may_0 1 rfl rfl)
theorem dX9_may_2 : decode cX9_may 2 = .ok (.invokevirtual 23, 3) := dk_182 0 23 (dk_at dksX9_may_0 2 rfl rfl)
theorem dX9_may_5 : decode cX9_may 5 = .ok (.ireturn, 1) := dk_172 (dk_at dksX9_may_0 5 rfl rfl)
abbrev cX9_drag : ByteArray := prog_4_method_5_code
def yX9_drag : MethodName := ⟨RX9, "drag", "(I)I"⟩
def dkwX9_drag_0 : List UInt8 := [5, 27, 104, 172]
abbrev dktX9_drag_0 : List UInt8 := dkwX9_drag_0 ++ []
theorem dksX9_drag_0 : cX9_drag.data.toList.drop 0 = dktX9_drag_0 := by decide +kernel
theorem dX9_drag_0 : decode cX9_drag 0 = .ok (.iconst 2, 1) := dk_5 (dk_at dksX9_drag_0 0 rfl rfl)
theorem dX9_drag_1 : decode cX9_drag 1 = .ok (.iload_n 1, 1) := dk_27 (dk_at dksX9_drag_0 1 rfl rfl)
theorem dX9_drag_2 : decode cX9_drag 2 = .ok (.imul, 1) := dk_104 (dk_at dksX9_drag_0 2 rfl rfl)
theorem dX9_drag_3 : decode cX9_drag 3 = .ok (.ireturn, 1) := dk_172 (dk_at dksX9_drag_0 3 rfl rfl)
abbrev cX9_goesBy : ByteArray := prog_4_method_8_code
def yX9_goesBy : MethodName := ⟨RX9, "goesBy", "(II)I"⟩
def dkwX9_goesBy_2 : List UInt8 := [167, 0, 4, 3, 172]
abbrev dktX9_goesBy_2 : List UInt8 := dkwX9_goesBy_2 ++ []
def dkwX9_goesBy_1 : List UInt8 := [29, 42, 180, 0, 3, 3, 28, 27, 42, 180, 0, 15, 16, 247, 16, 9, 182, 0, 49, 96, 184, 0, 34]
abbrev dktX9_goesBy_1 : List UInt8 := dkwX9_goesBy_1 ++ dktX9_goesBy_2
def dkwX9_goesBy_0 : List UInt8 := [42, 28, 182, 0, 43, 153, 0, 12, 42, 27, 28, 182, 0, 46, 167, 0, 4, 3, 62, 29, 158, 0, 30, 3]
abbrev dktX9_goesBy_0 : List UInt8 := dkwX9_goesBy_0 ++ dktX9_goesBy_1
theorem dksX9_goesBy_0 : cX9_goesBy.data.toList.drop 0 = dktX9_goesBy_0 := by decide +kernel
theorem dksX9_goesBy_1 : cX9_goesBy.data.toList.drop 24 = dktX9_goesBy_1 := dk_seg dksX9_goesBy_0 24 rfl rfl
theorem dksX9_goesBy_2 : cX9_goesBy.data.toList.drop 47 = dktX9_goesBy_2 := dk_seg dksX9_goesBy_1 23 rfl rfl
theorem dX9_goesBy_0 : decode cX9_goesBy 0 = .ok (.aload_n 0, 1) := dk_42 (dk_at dksX9_goesBy_0 0 rfl rfl)
theorem dX9_goesBy_1 : decode cX9_goesBy 1 = .ok (.iload_n 2, 1) := dk_28 (dk_at dksX9_goesBy_0 1 rfl rfl)
theorem dX9_goesBy_2 : decode cX9_goesBy 2 = .ok (.invokevirtual 43, 3) := dk_182 0 43 (dk_at dksX9_goesBy_0 2 rfl rfl)
theorem dX9_goesBy_5 : decode cX9_goesBy 5 = .ok (.ifCond .eq 12, 3) := dk_153 0 12 (dk_at dksX9_goesBy_0 5 rfl rfl)
theorem dX9_goesBy_8 : decode cX9_goesBy 8 = .ok (.aload_n 0, 1) := dk_42 (dk_at dksX9_goesBy_0 8 rfl rfl)
theorem dX9_goesBy_9 : decode cX9_goesBy 9 = .ok (.iload_n 1, 1) := dk_27 (dk_at dksX9_goesBy_0 9 rfl rfl)
theorem dX9_goesBy_10 : decode cX9_goesBy 10 = .ok (.iload_n 2, 1) := dk_28 (dk_at dksX9_goesBy_0 10 rfl rfl)
theorem dX9_goesBy_11 : decode cX9_goesBy 11 = .ok (.invokevirtual 46, 3) := dk_182 0 46 (dk_at dksX9_goesBy_0 11 rfl rfl)
theorem dX9_goesBy_14 : decode cX9_goesBy 14 = .ok (.goto 4, 3) := dk_167 0 4 (dk_at dksX9_goesBy_0 14 rfl rfl)
theorem dX9_goesBy_17 : decode cX9_goesBy 17 = .ok (.iconst 0, 1) := dk_3 (dk_at dksX9_goesBy_0 17 rfl rfl)
theorem dX9_goesBy_18 : decode cX9_goesBy 18 = .ok (.istore_n 3, 1) := dk_62 (dk_at dksX9_goesBy_0 18 rfl rfl)
theorem dX9_goesBy_19 : decode cX9_goesBy 19 = .ok (.iload_n 3, 1) := dk_29 (dk_at dksX9_goesBy_0 19 rfl rfl)
theorem dX9_goesBy_20 : decode cX9_goesBy 20 = .ok (.ifCond .le 30, 3) := dk_158 0 30 (dk_at dksX9_goesBy_0 20 rfl rfl)
theorem dX9_goesBy_23 : decode cX9_goesBy 23 = .ok (.iconst 0, 1) := dk_3 (dk_at dksX9_goesBy_0 23 rfl rfl)
theorem dX9_goesBy_24 : decode cX9_goesBy 24 = .ok (.iload_n 3, 1) := dk_29 (dk_at dksX9_goesBy_1 0 rfl rfl)
theorem dX9_goesBy_25 : decode cX9_goesBy 25 = .ok (.aload_n 0, 1) := dk_42 (dk_at dksX9_goesBy_1 1 rfl rfl)
theorem dX9_goesBy_26 : decode cX9_goesBy 26 = .ok (.getfield 3, 3) := dk_180 0 3 (dk_at dksX9_goesBy_1 2 rfl rfl)
theorem dX9_goesBy_29 : decode cX9_goesBy 29 = .ok (.iconst 0, 1) := dk_3 (dk_at dksX9_goesBy_1 5 rfl rfl)
theorem dX9_goesBy_30 : decode cX9_goesBy 30 = .ok (.iload_n 2, 1) := dk_28 (dk_at dksX9_goesBy_1 6 rfl rfl)
theorem dX9_goesBy_31 : decode cX9_goesBy 31 = .ok (.iload_n 1, 1) := dk_27 (dk_at dksX9_goesBy_1 7 rfl rfl)
theorem dX9_goesBy_32 : decode cX9_goesBy 32 = .ok (.aload_n 0, 1) := dk_42 (dk_at dksX9_goesBy_1 8 rfl rfl)
theorem dX9_goesBy_33 : decode cX9_goesBy 33 = .ok (.getfield 15, 3) := dk_180 0 15 (dk_at dksX9_goesBy_1 9 rfl rfl)
theorem dX9_goesBy_36 : decode cX9_goesBy 36 = .ok (.bipush (-9), 2) := dk_16 247 (dk_at dksX9_goesBy_1 12 rfl rfl)
theorem dX9_goesBy_38 : decode cX9_goesBy 38 = .ok (.bipush 9, 2) := dk_16 9 (dk_at dksX9_goesBy_1 14 rfl rfl)
theorem dX9_goesBy_40 : decode cX9_goesBy 40 = .ok (.invokevirtual 49, 3) := dk_182 0 49 (dk_at dksX9_goesBy_1 16 rfl rfl)
theorem dX9_goesBy_43 : decode cX9_goesBy 43 = .ok (.iadd, 1) := dk_96 (dk_at dksX9_goesBy_1 19 rfl rfl)
theorem dX9_goesBy_44 : decode cX9_goesBy 44 = .ok (.invokestatic 34, 3) := dk_184 0 34 (dk_at dksX9_goesBy_1 20 rfl rfl)
theorem dX9_goesBy_47 : decode cX9_goesBy 47 = .ok (.goto 4, 3) := dk_167 0 4 (dk_at dksX9_goesBy_2 0 rfl rfl)
theorem dX9_goesBy_50 : decode cX9_goesBy 50 = .ok (.iconst 0, 1) := dk_3 (dk_at dksX9_goesBy_2 3 rfl rfl)
theorem dX9_goesBy_51 : decode cX9_goesBy 51 = .ok (.ireturn, 1) := dk_172 (dk_at dksX9_goesBy_2 4 rfl rfl)
abbrev cX9_pushes : ByteArray := prog_4_method_6_code
def yX9_pushes : MethodName := ⟨RX9, "pushes", "(II)I"⟩
def dkwX9_pushes_0 : List UInt8 := [3, 42, 180, 0, 3, 180, 0, 27, 28, 46, 42, 27, 182, 0, 30, 100, 16, 10, 108, 184, 0, 34, 172]
abbrev dktX9_pushes_0 : List UInt8 := dkwX9_pushes_0 ++ []
theorem dksX9_pushes_0 : cX9_pushes.data.toList.drop 0 = dktX9_pushes_0 := by decide +kernel
theorem dX9_pushes_0 : decode cX9_pushes 0 = .ok (.iconst 0, 1) := dk_3 (dk_at dksX9_pushes_0 0 rfl rfl)
theorem dX9_pushes_1 : decode cX9_pushes 1 = .ok (.aload_n 0, 1) := dk_42 (dk_at dksX9_pushes_0 1 rfl rfl)
theorem dX9_pushes_2 : decode cX9_pushes 2 = .ok (.getfield 3, 3) := dk_180 0 3 (dk_at dksX9_pushes_0 2 rfl rfl)
theorem dX9_pushes_5 : decode cX9_pushes 5 = .ok (.getfield 27, 3) := dk_180 0 27 (dk_at dksX9_pushes_0 5 rfl rfl)
theorem dX9_pushes_8 : decode cX9_pushes 8 = .ok (.iload_n 2, 1) := dk_28 (dk_at dksX9_pushes_0 8 rfl rfl)
theorem dX9_pushes_9 : decode cX9_pushes 9 = .ok (.iaload, 1) := dk_46 (dk_at dksX9_pushes_0 9 rfl rfl)
theorem dX9_pushes_10 : decode cX9_pushes 10 = .ok (.aload_n 0, 1) := dk_42 (dk_at dksX9_pushes_0 10 rfl rfl)
theorem dX9_pushes_11 : decode cX9_pushes 11 = .ok (.iload_n 1, 1) := dk_27 (dk_at dksX9_pushes_0 11 rfl rfl)
theorem dX9_pushes_12 : decode cX9_pushes 12 = .ok (.invokevirtual 30, 3) := dk_182 0 30 (dk_at dksX9_pushes_0 12 rfl rfl)
theorem dX9_pushes_15 : decode cX9_pushes 15 = .ok (.isub, 1) := dk_100 (dk_at dksX9_pushes_0 15 rfl rfl)
theorem dX9_pushes_16 : decode cX9_pushes 16 = .ok (.bipush 10, 2) := dk_16 10 (dk_at dksX9_pushes_0 16 rfl rfl)
theorem dX9_pushes_18 : decode cX9_pushes 18 = .ok (.idiv, 1) := dk_108 (dk_at dksX9_pushes_0 18 rfl rfl)
theorem dX9_pushes_19 : decode cX9_pushes 19 = .ok (.invokestatic 34, 3) := dk_184 0 34 (dk_at dksX9_pushes_0 19 rfl rfl)
theorem dX9_pushes_22 : decode cX9_pushes 22 = .ok (.ireturn, 1) := dk_172 (dk_at dksX9_pushes_0 22 rfl rfl)
abbrev cX9_way : ByteArray := prog_4_method_7_code
def yX9_way : MethodName := ⟨RX9, "way", "(I)I"⟩
def dkwX9_way_0 : List UInt8 := [42, 180, 0, 3, 180, 0, 40, 27, 46, 172]
abbrev dktX9_way_0 : List UInt8 := dkwX9_way_0 ++ []
theorem dksX9_way_0 : cX9_way.data.toList.drop 0 = dktX9_way_0 := by decide +kernel
theorem dX9_way_0 : decode cX9_way 0 = .ok (.aload_n 0, 1) := dk_42 (dk_at dksX9_way_0 0 rfl rfl)
theorem dX9_way_1 : decode cX9_way 1 = .ok (.getfield 3, 3) := dk_180 0 3 (dk_at dksX9_way_0 1 rfl rfl)
theorem dX9_way_4 : decode cX9_way 4 = .ok (.getfield 40, 3) := dk_180 0 40 (dk_at dksX9_way_0 4 rfl rfl)
theorem dX9_way_7 : decode cX9_way 7 = .ok (.iload_n 1, 1) := dk_27 (dk_at dksX9_way_0 7 rfl rfl)
theorem dX9_way_8 : decode cX9_way 8 = .ok (.iaload, 1) := dk_46 (dk_at dksX9_way_0 8 rfl rfl)
theorem dX9_way_9 : decode cX9_way 9 = .ok (.ireturn, 1) := dk_172 (dk_at dksX9_way_0 9 rfl rfl)
theorem q124 : (Jvm.Cond.initialized "WalkingStones$How") ∈ lw_all := lw_g (lw_at lw_m1 19 rfl) rfl
theorem q181 : (Jvm.Cond.instanceMethod ({ cls := "WalkingStones$How", name := "<init>", desc := "(LWalkingStones;I)V" } : Jvm.MethodName)) ∈ lw_all := lw_g (lw_at lw_m1 76 rfl) rfl
theorem q182 : (Jvm.Cond.code ({ cls := "WalkingStones$How", name := "<init>", desc := "(LWalkingStones;I)V" } : Jvm.MethodName) prog_4_method_1_code (3 : Nat) (Option.none : Option Jvm.ClassFile.FieldType)) ∈ lw_all := lw_g (lw_at lw_m1 77 rfl) rfl
theorem q183 : (Jvm.Cond.methodLink "WalkingStones$How" (9 : Nat) ({ cls := "java/lang/Object", name := "<init>", desc := "()V" } : Jvm.MethodName)) ∈ lw_all := lw_g (lw_at lw_m1 78 rfl) rfl
theorem q187 : (Jvm.Cond.fieldLink "WalkingStones$How" (15 : Nat) "WalkingStones$How" "number" "I") ∈ lw_all := lw_g (lw_at lw_m1 82 rfl) rfl
theorem q195 : (Jvm.Cond.fieldLink "WalkingStones$How" (3 : Nat) "WalkingStones$How" "this$0" "LWalkingStones;") ∈ lw_all := lw_g (lw_at lw_m1 90 rfl) rfl
theorem q199 : (Jvm.Cond.soleField "WalkingStones$How" "number") ∈ lw_all := lw_g (lw_at lw_m1 94 rfl) rfl
theorem q201 : (Jvm.Cond.soleField "WalkingStones$How" "this$0") ∈ lw_all := lw_g (lw_at lw_m1 96 rfl) rfl
theorem q257 : (Jvm.Cond.instantiable "WalkingStones$How" (2 : Nat)) ∈ lw_all := lw_g (lw_at lw_m1 152 rfl) rfl
theorem q259 : (Jvm.Cond.laysFinal "WalkingStones$How" "WalkingStones$How" "number" "I") ∈ lw_all := lw_g (lw_at lw_m1 154 rfl) rfl
theorem q260 : (Jvm.Cond.laysFinal "WalkingStones$How" "WalkingStones$How" "this$0" "LWalkingStones;") ∈ lw_all := lw_g (lw_at lw_m1 155 rfl) rfl
theorem q261 : (Jvm.Cond.superclass "WalkingStones$How" "java/lang/Object") ∈ lw_all := lw_g (lw_at lw_m1 156 rfl) rfl
theorem q276 : (Jvm.Cond.instanceMethod ({ cls := "WalkingStones$How", name := "may", desc := "(I)Z" } : Jvm.MethodName)) ∈ lw_all := lw_g (lw_at lw_m1 171 rfl) rfl
theorem q277 : (Jvm.Cond.selects "WalkingStones$How" ({ cls := "WalkingStones$How", name := "may", desc := "(I)Z" } : Jvm.MethodName) ({ cls := "WalkingStones$How", name := "may", desc := "(I)Z" } : Jvm.MethodName)) ∈ lw_all := lw_g (lw_at lw_m1 172 rfl) rfl
theorem q278 : (Jvm.Cond.sameMethod "WalkingStones$How" "WalkingStones$How" "may" "(I)Z") ∈ lw_all := lw_g (lw_at lw_m1 173 rfl) rfl
theorem q285 : (Jvm.Cond.declares ({ cls := "WalkingStones$How", name := "isWet", desc := "(I)Z" } : Jvm.MethodName)) ∈ lw_tbl := lw_at lw_m1 180 rfl
theorem q287 : (Jvm.Cond.instanceMethod ({ cls := "WalkingStones$How", name := "isWet", desc := "(I)Z" } : Jvm.MethodName)) ∈ lw_all := lw_g (lw_at lw_m1 182 rfl) rfl
theorem q288 : (Jvm.Cond.code ({ cls := "WalkingStones$How", name := "isWet", desc := "(I)Z" } : Jvm.MethodName) prog_4_method_3_code (2 : Nat) (Option.some Jvm.ClassFile.FieldType.boolean)) ∈ lw_all := lw_g (lw_at lw_m1 183 rfl) rfl
theorem q296 : (Jvm.Cond.declares ({ cls := "WalkingStones$How", name := "may", desc := "(I)Z" } : Jvm.MethodName)) ∈ lw_tbl := lw_at lw_m1 191 rfl
theorem q302 : (Jvm.Cond.code ({ cls := "WalkingStones$How", name := "may", desc := "(I)Z" } : Jvm.MethodName) prog_4_method_4_code (2 : Nat) (Option.some Jvm.ClassFile.FieldType.boolean)) ∈ lw_all := lw_g (lw_at lw_m1 197 rfl) rfl
theorem q303 : (Jvm.Cond.methodLink "WalkingStones$How" (23 : Nat) ({ cls := "WalkingStones$How", name := "isWet", desc := "(I)Z" } : Jvm.MethodName)) ∈ lw_all := lw_g (lw_at lw_m1 198 rfl) rfl
theorem q305 : (Jvm.Cond.instanceMethod ({ cls := "WalkingStones$How", name := "drag", desc := "(I)I" } : Jvm.MethodName)) ∈ lw_all := lw_g (lw_at lw_m1 200 rfl) rfl
theorem q306 : (Jvm.Cond.selects "WalkingStones$How" ({ cls := "WalkingStones$How", name := "drag", desc := "(I)I" } : Jvm.MethodName) ({ cls := "WalkingStones$How", name := "drag", desc := "(I)I" } : Jvm.MethodName)) ∈ lw_all := lw_g (lw_at lw_m1 201 rfl) rfl
theorem q307 : (Jvm.Cond.sameMethod "WalkingStones$How" "WalkingStones$How" "drag" "(I)I") ∈ lw_all := lw_g (lw_at lw_m1 202 rfl) rfl
theorem q326 : (Jvm.Cond.code ({ cls := "WalkingStones$How", name := "drag", desc := "(I)I" } : Jvm.MethodName) prog_4_method_5_code (2 : Nat) (Option.some Jvm.ClassFile.FieldType.int)) ∈ lw_all := lw_g (lw_at lw_m1 221 rfl) rfl
theorem q328 : (Jvm.Cond.instanceMethod ({ cls := "WalkingStones$How", name := "goesBy", desc := "(II)I" } : Jvm.MethodName)) ∈ lw_all := lw_g (lw_at lw_m1 223 rfl) rfl
theorem q329 : (Jvm.Cond.selects "WalkingStones$How" ({ cls := "WalkingStones$How", name := "goesBy", desc := "(II)I" } : Jvm.MethodName) ({ cls := "WalkingStones$How", name := "goesBy", desc := "(II)I" } : Jvm.MethodName)) ∈ lw_all := lw_g (lw_at lw_m1 224 rfl) rfl
theorem q330 : (Jvm.Cond.sameMethod "WalkingStones$How" "WalkingStones$How" "goesBy" "(II)I") ∈ lw_all := lw_g (lw_at lw_m1 225 rfl) rfl
theorem q336 : (Jvm.Cond.code ({ cls := "WalkingStones$How", name := "goesBy", desc := "(II)I" } : Jvm.MethodName) prog_4_method_8_code (4 : Nat) (Option.some Jvm.ClassFile.FieldType.int)) ∈ lw_all := lw_g (lw_at lw_m1 231 rfl) rfl
theorem q337 : (Jvm.Cond.methodLink "WalkingStones$How" (43 : Nat) ({ cls := "WalkingStones$How", name := "may", desc := "(I)Z" } : Jvm.MethodName)) ∈ lw_all := lw_g (lw_at lw_m1 232 rfl) rfl
theorem q338 : (Jvm.Cond.methodLink "WalkingStones$How" (46 : Nat) ({ cls := "WalkingStones$How", name := "pushes", desc := "(II)I" } : Jvm.MethodName)) ∈ lw_all := lw_g (lw_at lw_m1 233 rfl) rfl
theorem q339 : (Jvm.Cond.instanceMethod ({ cls := "WalkingStones$How", name := "pushes", desc := "(II)I" } : Jvm.MethodName)) ∈ lw_all := lw_g (lw_at lw_m1 234 rfl) rfl
theorem q340 : (Jvm.Cond.selects "WalkingStones$How" ({ cls := "WalkingStones$How", name := "pushes", desc := "(II)I" } : Jvm.MethodName) ({ cls := "WalkingStones$How", name := "pushes", desc := "(II)I" } : Jvm.MethodName)) ∈ lw_all := lw_g (lw_at lw_m1 235 rfl) rfl
theorem q341 : (Jvm.Cond.sameMethod "WalkingStones$How" "WalkingStones$How" "pushes" "(II)I") ∈ lw_all := lw_g (lw_at lw_m1 236 rfl) rfl
theorem q348 : (Jvm.Cond.declares ({ cls := "WalkingStones$How", name := "pushes", desc := "(II)I" } : Jvm.MethodName)) ∈ lw_tbl := lw_at lw_m2 3 rfl
theorem q360 : (Jvm.Cond.code ({ cls := "WalkingStones$How", name := "pushes", desc := "(II)I" } : Jvm.MethodName) prog_4_method_6_code (3 : Nat) (Option.some Jvm.ClassFile.FieldType.int)) ∈ lw_all := lw_g (lw_at lw_m2 15 rfl) rfl
theorem q361 : (Jvm.Cond.methodLink "WalkingStones$How" (30 : Nat) ({ cls := "WalkingStones$How", name := "drag", desc := "(I)I" } : Jvm.MethodName)) ∈ lw_all := lw_g (lw_at lw_m2 16 rfl) rfl
theorem q362 : (Jvm.Cond.methodLink "WalkingStones$How" (34 : Nat) ({ cls := "java/lang/Math", name := "max", desc := "(II)I" } : Jvm.MethodName)) ∈ lw_all := lw_g (lw_at lw_m2 17 rfl) rfl
theorem q365 : (Jvm.Cond.methodLinkNest "WalkingStones$How" (49 : Nat) ({ cls := "WalkingStones", name := "asks", desc := "(IIIIII)I" } : Jvm.MethodName) "WalkingStones") ∈ lw_tbl := lw_at lw_m2 20 rfl
theorem q762 : (Jvm.Cond.fieldLinkNest "WalkingStones$How" (19 : Nat) "WalkingStones" "wet" "[I" "WalkingStones") ∈ lw_tbl := lw_at lw_m3 177 rfl
theorem q770 : (Jvm.Cond.fieldLinkNest "WalkingStones$How" (27 : Nat) "WalkingStones" "wind" "[I" "WalkingStones") ∈ lw_tbl := lw_at lw_m3 185 rfl
theorem q772 : (Jvm.Cond.fieldLinkNest "WalkingStones$How" (40 : Nat) "WalkingStones" "ways" "[I" "WalkingStones") ∈ lw_tbl := lw_at lw_m3 187 rfl
theorem q950 : (Jvm.Cond.instanceMethod ({ cls := "WalkingStones$How", name := "way", desc := "(I)I" } : Jvm.MethodName)) ∈ lw_all := lw_g (lw_at lw_m4 125 rfl) rfl
theorem q951 : (Jvm.Cond.selects "WalkingStones$How" ({ cls := "WalkingStones$How", name := "way", desc := "(I)I" } : Jvm.MethodName) ({ cls := "WalkingStones$How", name := "way", desc := "(I)I" } : Jvm.MethodName)) ∈ lw_all := lw_g (lw_at lw_m4 126 rfl) rfl
theorem q952 : (Jvm.Cond.sameMethod "WalkingStones$How" "WalkingStones$How" "way" "(I)I") ∈ lw_all := lw_g (lw_at lw_m4 127 rfl) rfl
theorem q960 : (Jvm.Cond.code ({ cls := "WalkingStones$How", name := "way", desc := "(I)I" } : Jvm.MethodName) prog_4_method_7_code (2 : Nat) (Option.some Jvm.ClassFile.FieldType.int)) ∈ lw_all := lw_g (lw_at lw_m4 135 rfl) rfl
theorem q1819 : (Jvm.Cond.sameMethod "WalkingStones$How" "WalkingStones$How" "isWet" "(I)Z") ∈ lw_all := lw_g (lw_at lw_m8 34 rfl) rfl
theorem q1821 : (Jvm.Cond.selects "WalkingStones$How" ({ cls := "WalkingStones$How", name := "isWet", desc := "(I)Z" } : Jvm.MethodName) ({ cls := "WalkingStones$How", name := "isWet", desc := "(I)Z" } : Jvm.MethodName)) ∈ lw_all := lw_g (lw_at lw_m8 36 rfl) rfl
theorem in_X9 : ∀ w ∈ wsX90, w ∈ lw_all := lw_in wsX90 [259, 260] (by decide +kernel) (by decide +kernel)
/-! WalkingStones$Gust -/
set_option maxRecDepth 100000
def RX10 : String := "WalkingStones$Gust"
def TX10 : u_T := fun k => match k with
  | 0 => ("WalkingStones$How", "number", "I", true)
  | 1 => ("WalkingStones$How", "this$0", "LWalkingStones;", true)
  | _ => ("WalkingStones$Gust", "this$0", "LWalkingStones;", true)
def tyX10 : Nat → FieldType := fun k => match k with
  | 0 => .int
  | 1 => .object "WalkingStones"
  | _ => .object "WalkingStones"
abbrev wsX100 : List Cond := u_ws RX10 TX10 3
-- two fields of one name: no nmX10
theorem tyX10_ok : ∀ k, k < 3 → parseFieldDescriptor (TX10 k).2.2.1 = some (tyX10 k) := by decide +kernel
abbrev cX10_init : ByteArray := prog_3_method_1_code
def yX10_init : MethodName := ⟨RX10, "<init>", "(LWalkingStones;I)V"⟩
def dkwX10_init_0 : List UInt8 := [42, 43, 181, 0, 1, 42, 43, 28, 183, 0, 7, 177]
abbrev dktX10_init_0 : List UInt8 := dkwX10_init_0 ++ []
theorem dksX10_init_0 : cX10_init.data.toList.drop 0 = dktX10_init_0 := by decide +kernel
theorem dX10_init_0 : decode cX10_init 0 = .ok (.aload_n 0, 1) := dk_42 (dk_at dksX10_init_0 0 rfl rfl)
theorem dX10_init_1 : decode cX10_init 1 = .ok (.aload_n 1, 1) := dk_43 (dk_at dksX10_init_0 1 rfl rfl)
theorem dX10_init_2 : decode cX10_init 2 = .ok (.putfield 1, 3) := dk_181 0 1 (dk_at dksX10_init_0 2 rfl rfl)
theorem dX10_init_5 : decode cX10_init 5 = .ok (.aload_n 0, 1) := dk_42 (dk_at dksX10_init_0 5 rfl rfl)
theorem dX10_init_6 : decode cX10_init 6 = .ok (.aload_n 1, 1) := dk_43 (dk_at dksX10_init_0 6 rfl rfl)
theorem dX10_init_7 : decode cX10_init 7 = .ok (.iload_n 2, 1) := dk_28 (dk_at dksX10_init_0 7 rfl rfl)
theorem dX10_init_8 : decode cX10_init 8 = .ok (.invokespecial 7, 3) := dk_183 0 7 (dk_at dksX10_init_0 8 rfl rfl)
theorem dX10_init_11 : decode cX10_init 11 = .ok (.return_, 1) := dk_177 (dk_at dksX10_init_0 11 rfl rfl)
abbrev cX10_drag : ByteArray := prog_3_method_3_code
def yX10_drag : MethodName := ⟨RX10, "drag", "(I)I"⟩
def dkwX10_drag_0 : List UInt8 := [42, 27, 183, 0, 17, 42, 180, 0, 21, 96, 172]
abbrev dktX10_drag_0 : List UInt8 := dkwX10_drag_0 ++ []
theorem dksX10_drag_0 : cX10_drag.data.toList.drop 0 = dktX10_drag_0 := by decide +kernel
theorem dX10_drag_0 : decode cX10_drag 0 = .ok (.aload_n 0, 1) := dk_42 (dk_at dksX10_drag_0 0 rfl rfl)
theorem dX10_drag_1 : decode cX10_drag 1 = .ok (.iload_n 1, 1) := dk_27 (dk_at dksX10_drag_0 1 rfl rfl)
theorem dX10_drag_2 : decode cX10_drag 2 = .ok (.invokespecial 17, 3) := dk_183 0 17 (dk_at dksX10_drag_0 2 rfl rfl)
theorem dX10_drag_5 : decode cX10_drag 5 = .ok (.aload_n 0, 1) := dk_42 (dk_at dksX10_drag_0 5 rfl rfl)
theorem dX10_drag_6 : decode cX10_drag 6 = .ok (.getfield 21, 3) := dk_180 0 21 (dk_at dksX10_drag_0 6 rfl rfl)
theorem dX10_drag_9 : decode cX10_drag 9 = .ok (.iadd, 1) := dk_96 (dk_at dksX10_drag_0 9 rfl rfl)
theorem dX10_drag_10 : decode cX10_drag 10 = .ok (.ireturn, 1) := dk_172 (dk_at dksX10_drag_0 10 rfl rfl)
theorem q125 : (Jvm.Cond.initialized "WalkingStones$Gust") ∈ lw_all := lw_g (lw_at lw_m1 20 rfl) rfl
theorem q176 : (Jvm.Cond.instantiable "WalkingStones$Gust" (3 : Nat)) ∈ lw_all := lw_g (lw_at lw_m1 71 rfl) rfl
theorem q178 : (Jvm.Cond.instanceMethod ({ cls := "WalkingStones$Gust", name := "<init>", desc := "(LWalkingStones;I)V" } : Jvm.MethodName)) ∈ lw_all := lw_g (lw_at lw_m1 73 rfl) rfl
theorem q179 : (Jvm.Cond.code ({ cls := "WalkingStones$Gust", name := "<init>", desc := "(LWalkingStones;I)V" } : Jvm.MethodName) prog_3_method_1_code (3 : Nat) (Option.none : Option Jvm.ClassFile.FieldType)) ∈ lw_all := lw_g (lw_at lw_m1 74 rfl) rfl
theorem q180 : (Jvm.Cond.methodLink "WalkingStones$Gust" (7 : Nat) ({ cls := "WalkingStones$How", name := "<init>", desc := "(LWalkingStones;I)V" } : Jvm.MethodName)) ∈ lw_all := lw_g (lw_at lw_m1 75 rfl) rfl
theorem q186 : (Jvm.Cond.fieldLink "WalkingStones$Gust" (1 : Nat) "WalkingStones$Gust" "this$0" "LWalkingStones;") ∈ lw_all := lw_g (lw_at lw_m1 81 rfl) rfl
theorem q188 : (Jvm.Cond.fieldLink "WalkingStones$Gust" (21 : Nat) "WalkingStones$Gust" "number" "I") ∈ lw_all := lw_g (lw_at lw_m1 83 rfl) rfl
theorem q189 : (Jvm.Cond.sameField "WalkingStones$Gust" "WalkingStones$How" "number" "I") ∈ lw_all := lw_g (lw_at lw_m1 84 rfl) rfl
theorem q196 : (Jvm.Cond.laysFinal "WalkingStones$Gust" "WalkingStones$Gust" "this$0" "LWalkingStones;") ∈ lw_all := lw_g (lw_at lw_m1 91 rfl) rfl
theorem q197 : (Jvm.Cond.soleField "WalkingStones$Gust" "this$0") ∈ lw_all := lw_g (lw_at lw_m1 92 rfl) rfl
theorem q198 : (Jvm.Cond.laysFinal "WalkingStones$Gust" "WalkingStones$How" "number" "I") ∈ lw_all := lw_g (lw_at lw_m1 93 rfl) rfl
theorem q200 : (Jvm.Cond.laysFinal "WalkingStones$Gust" "WalkingStones$How" "this$0" "LWalkingStones;") ∈ lw_all := lw_g (lw_at lw_m1 95 rfl) rfl
theorem q202 : (Jvm.Cond.superclass "WalkingStones$Gust" "WalkingStones$How") ∈ lw_all := lw_g (lw_at lw_m1 97 rfl) rfl
theorem q279 : (Jvm.Cond.selects "WalkingStones$Gust" ({ cls := "WalkingStones$How", name := "may", desc := "(I)Z" } : Jvm.MethodName) ({ cls := "WalkingStones$How", name := "may", desc := "(I)Z" } : Jvm.MethodName)) ∈ lw_all := lw_g (lw_at lw_m1 174 rfl) rfl
theorem q295 : (Jvm.Cond.sameMethod "WalkingStones$Gust" "WalkingStones$How" "may" "(I)Z") ∈ lw_all := lw_g (lw_at lw_m1 190 rfl) rfl
theorem q308 : (Jvm.Cond.selects "WalkingStones$Gust" ({ cls := "WalkingStones$How", name := "drag", desc := "(I)I" } : Jvm.MethodName) ({ cls := "WalkingStones$Gust", name := "drag", desc := "(I)I" } : Jvm.MethodName)) ∈ lw_all := lw_g (lw_at lw_m1 203 rfl) rfl
theorem q309 : (Jvm.Cond.instanceMethod ({ cls := "WalkingStones$Gust", name := "drag", desc := "(I)I" } : Jvm.MethodName)) ∈ lw_all := lw_g (lw_at lw_m1 204 rfl) rfl
theorem q310 : (Jvm.Cond.code ({ cls := "WalkingStones$Gust", name := "drag", desc := "(I)I" } : Jvm.MethodName) prog_3_method_3_code (2 : Nat) (Option.some Jvm.ClassFile.FieldType.int)) ∈ lw_all := lw_g (lw_at lw_m1 205 rfl) rfl
theorem q311 : (Jvm.Cond.methodLink "WalkingStones$Gust" (17 : Nat) ({ cls := "WalkingStones$How", name := "drag", desc := "(I)I" } : Jvm.MethodName)) ∈ lw_all := lw_g (lw_at lw_m1 206 rfl) rfl
theorem q331 : (Jvm.Cond.selects "WalkingStones$Gust" ({ cls := "WalkingStones$How", name := "goesBy", desc := "(II)I" } : Jvm.MethodName) ({ cls := "WalkingStones$How", name := "goesBy", desc := "(II)I" } : Jvm.MethodName)) ∈ lw_all := lw_g (lw_at lw_m1 226 rfl) rfl
theorem q342 : (Jvm.Cond.selects "WalkingStones$Gust" ({ cls := "WalkingStones$How", name := "pushes", desc := "(II)I" } : Jvm.MethodName) ({ cls := "WalkingStones$How", name := "pushes", desc := "(II)I" } : Jvm.MethodName)) ∈ lw_all := lw_g (lw_at lw_m1 237 rfl) rfl
theorem q953 : (Jvm.Cond.selects "WalkingStones$Gust" ({ cls := "WalkingStones$How", name := "way", desc := "(I)I" } : Jvm.MethodName) ({ cls := "WalkingStones$How", name := "way", desc := "(I)I" } : Jvm.MethodName)) ∈ lw_all := lw_g (lw_at lw_m4 128 rfl) rfl
theorem q1820 : (Jvm.Cond.selects "WalkingStones$Gust" ({ cls := "WalkingStones$How", name := "isWet", desc := "(I)Z" } : Jvm.MethodName) ({ cls := "WalkingStones$How", name := "isWet", desc := "(I)Z" } : Jvm.MethodName)) ∈ lw_all := lw_g (lw_at lw_m8 35 rfl) rfl
theorem q1827 : (Jvm.Cond.sameMethod "WalkingStones$Gust" "WalkingStones$Gust" "drag" "(I)I") ∈ lw_all := lw_g (lw_at lw_m8 42 rfl) rfl
theorem q1839 : (Jvm.Cond.castable "WalkingStones$Gust" "WalkingStones$How") ∈ lw_tbl := lw_at lw_m8 54 rfl
theorem in_X10 : ∀ w ∈ wsX100, w ∈ lw_all := lw_in wsX100 [198, 200, 196] (by decide +kernel) (by decide +kernel)
/-! WalkingStones$Raft -/
set_option maxRecDepth 100000
def RX11 : String := "WalkingStones$Raft"
def TX11 : u_T := fun k => match k with
  | 0 => ("WalkingStones$How", "number", "I", true)
  | 1 => ("WalkingStones$How", "this$0", "LWalkingStones;", true)
  | 2 => ("WalkingStones$Gust", "this$0", "LWalkingStones;", true)
  | _ => ("WalkingStones$Raft", "this$0", "LWalkingStones;", true)
def tyX11 : Nat → FieldType := fun k => match k with
  | 0 => .int
  | 1 => .object "WalkingStones"
  | 2 => .object "WalkingStones"
  | _ => .object "WalkingStones"
abbrev wsX110 : List Cond := u_ws RX11 TX11 4
-- two fields of one name: no nmX11
theorem tyX11_ok : ∀ k, k < 4 → parseFieldDescriptor (TX11 k).2.2.1 = some (tyX11 k) := by decide +kernel
abbrev cX11_init : ByteArray := prog_9_method_1_code
def yX11_init : MethodName := ⟨RX11, "<init>", "(LWalkingStones;I)V"⟩
def dkwX11_init_0 : List UInt8 := [42, 43, 181, 0, 1, 42, 43, 28, 183, 0, 7, 177]
abbrev dktX11_init_0 : List UInt8 := dkwX11_init_0 ++ []
theorem dksX11_init_0 : cX11_init.data.toList.drop 0 = dktX11_init_0 := by decide +kernel
theorem dX11_init_0 : decode cX11_init 0 = .ok (.aload_n 0, 1) := dk_42 (dk_at dksX11_init_0 0 rfl rfl)
theorem dX11_init_1 : decode cX11_init 1 = .ok (.aload_n 1, 1) := dk_43 (dk_at dksX11_init_0 1 rfl rfl)
theorem dX11_init_2 : decode cX11_init 2 = .ok (.putfield 1, 3) := dk_181 0 1 (dk_at dksX11_init_0 2 rfl rfl)
theorem dX11_init_5 : decode cX11_init 5 = .ok (.aload_n 0, 1) := dk_42 (dk_at dksX11_init_0 5 rfl rfl)
theorem dX11_init_6 : decode cX11_init 6 = .ok (.aload_n 1, 1) := dk_43 (dk_at dksX11_init_0 6 rfl rfl)
theorem dX11_init_7 : decode cX11_init 7 = .ok (.iload_n 2, 1) := dk_28 (dk_at dksX11_init_0 7 rfl rfl)
theorem dX11_init_8 : decode cX11_init 8 = .ok (.invokespecial 7, 3) := dk_183 0 7 (dk_at dksX11_init_0 8 rfl rfl)
theorem dX11_init_11 : decode cX11_init 11 = .ok (.return_, 1) := dk_177 (dk_at dksX11_init_0 11 rfl rfl)
abbrev cX11_may : ByteArray := prog_9_method_3_code
def yX11_may : MethodName := ⟨RX11, "may", "(I)Z"⟩
def dkwX11_may_1 : List UInt8 := [167, 0, 4, 3, 172]
abbrev dktX11_may_1 : List UInt8 := dkwX11_may_1 ++ []
def dkwX11_may_0 : List UInt8 := [42, 27, 183, 0, 17, 153, 0, 20, 42, 180, 0, 1, 180, 0, 21, 27, 46, 5, 164, 0, 7, 4]
abbrev dktX11_may_0 : List UInt8 := dkwX11_may_0 ++ dktX11_may_1
theorem dksX11_may_0 : cX11_may.data.toList.drop 0 = dktX11_may_0 := by decide +kernel
theorem dksX11_may_1 : cX11_may.data.toList.drop 22 = dktX11_may_1 := dk_seg dksX11_may_0 22 rfl rfl
theorem dX11_may_0 : decode cX11_may 0 = .ok (.aload_n 0, 1) := dk_42 (dk_at dksX11_may_0 0 rfl rfl)
theorem dX11_may_1 : decode cX11_may 1 = .ok (.iload_n 1, 1) := dk_27 (dk_at dksX11_may_0 1 rfl rfl)
theorem dX11_may_2 : decode cX11_may 2 = .ok (.invokespecial 17, 3) := dk_183 0 17 (dk_at dksX11_may_0 2 rfl rfl)
theorem dX11_may_5 : decode cX11_may 5 = .ok (.ifCond .eq 20, 3) := dk_153 0 20 (dk_at dksX11_may_0 5 rfl rfl)
theorem dX11_may_8 : decode cX11_may 8 = .ok (.aload_n 0, 1) := dk_42 (dk_at dksX11_may_0 8 rfl rfl)
theorem dX11_may_9 : decode cX11_may 9 = .ok (.getfield 1, 3) := dk_180 0 1 (dk_at dksX11_may_0 9 rfl rfl)
theorem dX11_may_12 : decode cX11_may 12 = .ok (.getfield 21, 3) := dk_180 0 21 (dk_at dksX11_may_0 12 rfl rfl)
theorem dX11_may_15 : decode cX11_may 15 = .ok (.iload_n 1, 1) := dk_27 (dk_at dksX11_may_0 15 rfl rfl)
theorem dX11_may_16 : decode cX11_may 16 = .ok (.iaload, 1) := dk_46 (dk_at dksX11_may_0 16 rfl rfl)
theorem dX11_may_17 : decode cX11_may 17 = .ok (.iconst 2, 1) := dk_5 (dk_at dksX11_may_0 17 rfl rfl)
theorem dX11_may_18 : decode cX11_may 18 = .ok (.if_icmp .le 7, 3) := dk_164 0 7 (dk_at dksX11_may_0 18 rfl rfl)
theorem dX11_may_21 : decode cX11_may 21 = .ok (.iconst 1, 1) := dk_4 (dk_at dksX11_may_0 21 rfl rfl)
theorem dX11_may_22 : decode cX11_may 22 = .ok (.goto 4, 3) := dk_167 0 4 (dk_at dksX11_may_1 0 rfl rfl)
theorem dX11_may_25 : decode cX11_may 25 = .ok (.iconst 0, 1) := dk_3 (dk_at dksX11_may_1 3 rfl rfl)
theorem dX11_may_26 : decode cX11_may 26 = .ok (.ireturn, 1) := dk_172 (dk_at dksX11_may_1 4 rfl rfl)
abbrev cX11_drag : ByteArray := prog_9_method_4_code
def yX11_drag : MethodName := ⟨RX11, "drag", "(I)I"⟩
def dkwX11_drag_0 : List UInt8 := [42, 27, 183, 0, 27, 7, 108, 172]
abbrev dktX11_drag_0 : List UInt8 := dkwX11_drag_0 ++ []
theorem dksX11_drag_0 : cX11_drag.data.toList.drop 0 = dktX11_drag_0 := by decide +kernel
theorem dX11_drag_0 : decode cX11_drag 0 = .ok (.aload_n 0, 1) := dk_42 (dk_at dksX11_drag_0 0 rfl rfl)
theorem dX11_drag_1 : decode cX11_drag 1 = .ok (.iload_n 1, 1) := dk_27 (dk_at dksX11_drag_0 1 rfl rfl)
theorem dX11_drag_2 : decode cX11_drag 2 = .ok (.invokespecial 27, 3) := dk_183 0 27 (dk_at dksX11_drag_0 2 rfl rfl)
theorem dX11_drag_5 : decode cX11_drag 5 = .ok (.iconst 4, 1) := dk_7 (dk_at dksX11_drag_0 5 rfl rfl)
theorem dX11_drag_6 : decode cX11_drag 6 = .ok (.idiv, 1) := dk_108 (dk_at dksX11_drag_0 6 rfl rfl)
theorem dX11_drag_7 : decode cX11_drag 7 = .ok (.ireturn, 1) := dk_172 (dk_at dksX11_drag_0 7 rfl rfl)
theorem q126 : (Jvm.Cond.initialized "WalkingStones$Raft") ∈ lw_all := lw_g (lw_at lw_m1 21 rfl) rfl
theorem q204 : (Jvm.Cond.instantiable "WalkingStones$Raft" (4 : Nat)) ∈ lw_all := lw_g (lw_at lw_m1 99 rfl) rfl
theorem q206 : (Jvm.Cond.instanceMethod ({ cls := "WalkingStones$Raft", name := "<init>", desc := "(LWalkingStones;I)V" } : Jvm.MethodName)) ∈ lw_all := lw_g (lw_at lw_m1 101 rfl) rfl
theorem q207 : (Jvm.Cond.code ({ cls := "WalkingStones$Raft", name := "<init>", desc := "(LWalkingStones;I)V" } : Jvm.MethodName) prog_9_method_1_code (3 : Nat) (Option.none : Option Jvm.ClassFile.FieldType)) ∈ lw_all := lw_g (lw_at lw_m1 102 rfl) rfl
theorem q208 : (Jvm.Cond.methodLink "WalkingStones$Raft" (7 : Nat) ({ cls := "WalkingStones$Gust", name := "<init>", desc := "(LWalkingStones;I)V" } : Jvm.MethodName)) ∈ lw_all := lw_g (lw_at lw_m1 103 rfl) rfl
theorem q209 : (Jvm.Cond.fieldLink "WalkingStones$Raft" (1 : Nat) "WalkingStones$Raft" "this$0" "LWalkingStones;") ∈ lw_all := lw_g (lw_at lw_m1 104 rfl) rfl
theorem q210 : (Jvm.Cond.laysFinal "WalkingStones$Raft" "WalkingStones$Raft" "this$0" "LWalkingStones;") ∈ lw_all := lw_g (lw_at lw_m1 105 rfl) rfl
theorem q211 : (Jvm.Cond.soleField "WalkingStones$Raft" "this$0") ∈ lw_all := lw_g (lw_at lw_m1 106 rfl) rfl
theorem q212 : (Jvm.Cond.laysFinal "WalkingStones$Raft" "WalkingStones$Gust" "this$0" "LWalkingStones;") ∈ lw_all := lw_g (lw_at lw_m1 107 rfl) rfl
theorem q213 : (Jvm.Cond.laysFinal "WalkingStones$Raft" "WalkingStones$How" "number" "I") ∈ lw_all := lw_g (lw_at lw_m1 108 rfl) rfl
theorem q214 : (Jvm.Cond.laysFinal "WalkingStones$Raft" "WalkingStones$How" "this$0" "LWalkingStones;") ∈ lw_all := lw_g (lw_at lw_m1 109 rfl) rfl
theorem q215 : (Jvm.Cond.superclass "WalkingStones$Raft" "WalkingStones$Gust") ∈ lw_all := lw_g (lw_at lw_m1 110 rfl) rfl
theorem q291 : (Jvm.Cond.selects "WalkingStones$Raft" ({ cls := "WalkingStones$How", name := "may", desc := "(I)Z" } : Jvm.MethodName) ({ cls := "WalkingStones$Raft", name := "may", desc := "(I)Z" } : Jvm.MethodName)) ∈ lw_all := lw_g (lw_at lw_m1 186 rfl) rfl
theorem q292 : (Jvm.Cond.instanceMethod ({ cls := "WalkingStones$Raft", name := "may", desc := "(I)Z" } : Jvm.MethodName)) ∈ lw_all := lw_g (lw_at lw_m1 187 rfl) rfl
theorem q293 : (Jvm.Cond.code ({ cls := "WalkingStones$Raft", name := "may", desc := "(I)Z" } : Jvm.MethodName) prog_9_method_3_code (2 : Nat) (Option.some Jvm.ClassFile.FieldType.boolean)) ∈ lw_all := lw_g (lw_at lw_m1 188 rfl) rfl
theorem q294 : (Jvm.Cond.methodLink "WalkingStones$Raft" (17 : Nat) ({ cls := "WalkingStones$Gust", name := "may", desc := "(I)Z" } : Jvm.MethodName)) ∈ lw_all := lw_g (lw_at lw_m1 189 rfl) rfl
theorem q316 : (Jvm.Cond.instanceMethod ({ cls := "WalkingStones$Raft", name := "drag", desc := "(I)I" } : Jvm.MethodName)) ∈ lw_all := lw_g (lw_at lw_m1 211 rfl) rfl
theorem q317 : (Jvm.Cond.code ({ cls := "WalkingStones$Raft", name := "drag", desc := "(I)I" } : Jvm.MethodName) prog_9_method_4_code (2 : Nat) (Option.some Jvm.ClassFile.FieldType.int)) ∈ lw_all := lw_g (lw_at lw_m1 212 rfl) rfl
theorem q318 : (Jvm.Cond.methodLink "WalkingStones$Raft" (27 : Nat) ({ cls := "WalkingStones$Gust", name := "drag", desc := "(I)I" } : Jvm.MethodName)) ∈ lw_all := lw_g (lw_at lw_m1 213 rfl) rfl
theorem q319 : (Jvm.Cond.selects "WalkingStones$Raft" ({ cls := "WalkingStones$How", name := "drag", desc := "(I)I" } : Jvm.MethodName) ({ cls := "WalkingStones$Raft", name := "drag", desc := "(I)I" } : Jvm.MethodName)) ∈ lw_all := lw_g (lw_at lw_m1 214 rfl) rfl
theorem q333 : (Jvm.Cond.selects "WalkingStones$Raft" ({ cls := "WalkingStones$How", name := "goesBy", desc := "(II)I" } : Jvm.MethodName) ({ cls := "WalkingStones$How", name := "goesBy", desc := "(II)I" } : Jvm.MethodName)) ∈ lw_all := lw_g (lw_at lw_m1 228 rfl) rfl
theorem q347 : (Jvm.Cond.sameMethod "WalkingStones$Raft" "WalkingStones$How" "pushes" "(II)I") ∈ lw_all := lw_g (lw_at lw_m2 2 rfl) rfl
theorem q349 : (Jvm.Cond.selects "WalkingStones$Raft" ({ cls := "WalkingStones$How", name := "pushes", desc := "(II)I" } : Jvm.MethodName) ({ cls := "WalkingStones$How", name := "pushes", desc := "(II)I" } : Jvm.MethodName)) ∈ lw_all := lw_g (lw_at lw_m2 4 rfl) rfl
theorem q766 : (Jvm.Cond.fieldLinkNest "WalkingStones$Raft" (21 : Nat) "WalkingStones" "ice" "[I" "WalkingStones") ∈ lw_tbl := lw_at lw_m3 181 rfl
theorem q955 : (Jvm.Cond.selects "WalkingStones$Raft" ({ cls := "WalkingStones$How", name := "way", desc := "(I)I" } : Jvm.MethodName) ({ cls := "WalkingStones$How", name := "way", desc := "(I)I" } : Jvm.MethodName)) ∈ lw_all := lw_g (lw_at lw_m4 130 rfl) rfl
theorem q1818 : (Jvm.Cond.sameMethod "WalkingStones$Raft" "WalkingStones$Raft" "may" "(I)Z") ∈ lw_all := lw_g (lw_at lw_m8 33 rfl) rfl
theorem q1823 : (Jvm.Cond.selects "WalkingStones$Raft" ({ cls := "WalkingStones$How", name := "isWet", desc := "(I)Z" } : Jvm.MethodName) ({ cls := "WalkingStones$How", name := "isWet", desc := "(I)Z" } : Jvm.MethodName)) ∈ lw_all := lw_g (lw_at lw_m8 38 rfl) rfl
theorem q1826 : (Jvm.Cond.sameMethod "WalkingStones$Raft" "WalkingStones$Raft" "drag" "(I)I") ∈ lw_all := lw_g (lw_at lw_m8 41 rfl) rfl
theorem q1831 : (Jvm.Cond.castable "WalkingStones$Raft" "WalkingStones$Gust") ∈ lw_tbl := lw_at lw_m8 46 rfl
theorem q1840 : (Jvm.Cond.castable "WalkingStones$Raft" "WalkingStones$How") ∈ lw_tbl := lw_at lw_m8 55 rfl
theorem in_X11 : ∀ w ∈ wsX110, w ∈ lw_all := lw_in wsX110 [213, 214, 212, 210] (by decide +kernel) (by decide +kernel)
/-! WalkingStones$Whole -/
set_option maxRecDepth 100000
def RX12 : String := "WalkingStones$Whole"
def TX12 : u_T := fun k => match k with
  | 0 => ("WalkingStones$How", "number", "I", true)
  | 1 => ("WalkingStones$How", "this$0", "LWalkingStones;", true)
  | 2 => ("WalkingStones$Gust", "this$0", "LWalkingStones;", true)
  | 3 => ("WalkingStones$Raft", "this$0", "LWalkingStones;", true)
  | _ => ("WalkingStones$Whole", "this$0", "LWalkingStones;", true)
def tyX12 : Nat → FieldType := fun k => match k with
  | 0 => .int
  | 1 => .object "WalkingStones"
  | 2 => .object "WalkingStones"
  | 3 => .object "WalkingStones"
  | _ => .object "WalkingStones"
abbrev wsX120 : List Cond := u_ws RX12 TX12 5
-- two fields of one name: no nmX12
theorem tyX12_ok : ∀ k, k < 5 → parseFieldDescriptor (TX12 k).2.2.1 = some (tyX12 k) := by decide +kernel
abbrev cX12_init : ByteArray := prog_14_method_1_code
def yX12_init : MethodName := ⟨RX12, "<init>", "(LWalkingStones;I)V"⟩
def dkwX12_init_0 : List UInt8 := [42, 43, 181, 0, 1, 42, 43, 28, 183, 0, 7, 177]
abbrev dktX12_init_0 : List UInt8 := dkwX12_init_0 ++ []
theorem dksX12_init_0 : cX12_init.data.toList.drop 0 = dktX12_init_0 := by decide +kernel
theorem dX12_init_0 : decode cX12_init 0 = .ok (.aload_n 0, 1) := dk_42 (dk_at dksX12_init_0 0 rfl rfl)
theorem dX12_init_1 : decode cX12_init 1 = .ok (.aload_n 1, 1) := dk_43 (dk_at dksX12_init_0 1 rfl rfl)
theorem dX12_init_2 : decode cX12_init 2 = .ok (.putfield 1, 3) := dk_181 0 1 (dk_at dksX12_init_0 2 rfl rfl)
theorem dX12_init_5 : decode cX12_init 5 = .ok (.aload_n 0, 1) := dk_42 (dk_at dksX12_init_0 5 rfl rfl)
theorem dX12_init_6 : decode cX12_init 6 = .ok (.aload_n 1, 1) := dk_43 (dk_at dksX12_init_0 6 rfl rfl)
theorem dX12_init_7 : decode cX12_init 7 = .ok (.iload_n 2, 1) := dk_28 (dk_at dksX12_init_0 7 rfl rfl)
theorem dX12_init_8 : decode cX12_init 8 = .ok (.invokespecial 7, 3) := dk_183 0 7 (dk_at dksX12_init_0 8 rfl rfl)
theorem dX12_init_11 : decode cX12_init 11 = .ok (.return_, 1) := dk_177 (dk_at dksX12_init_0 11 rfl rfl)
abbrev cX12_may : ByteArray := prog_14_method_3_code
def yX12_may : MethodName := ⟨RX12, "may", "(I)Z"⟩
def dkwX12_may_1 : List UInt8 := [167, 0, 4, 3, 172]
abbrev dktX12_may_1 : List UInt8 := dkwX12_may_1 ++ []
def dkwX12_may_0 : List UInt8 := [42, 27, 183, 0, 17, 153, 0, 20, 42, 180, 0, 1, 180, 0, 21, 27, 46, 8, 164, 0, 7, 4]
abbrev dktX12_may_0 : List UInt8 := dkwX12_may_0 ++ dktX12_may_1
theorem dksX12_may_0 : cX12_may.data.toList.drop 0 = dktX12_may_0 := by decide +kernel
theorem dksX12_may_1 : cX12_may.data.toList.drop 22 = dktX12_may_1 := dk_seg dksX12_may_0 22 rfl rfl
theorem dX12_may_0 : decode cX12_may 0 = .ok (.aload_n 0, 1) := dk_42 (dk_at dksX12_may_0 0 rfl rfl)
theorem dX12_may_1 : decode cX12_may 1 = .ok (.iload_n 1, 1) := dk_27 (dk_at dksX12_may_0 1 rfl rfl)
theorem dX12_may_2 : decode cX12_may 2 = .ok (.invokespecial 17, 3) := dk_183 0 17 (dk_at dksX12_may_0 2 rfl rfl)
theorem dX12_may_5 : decode cX12_may 5 = .ok (.ifCond .eq 20, 3) := dk_153 0 20 (dk_at dksX12_may_0 5 rfl rfl)
theorem dX12_may_8 : decode cX12_may 8 = .ok (.aload_n 0, 1) := dk_42 (dk_at dksX12_may_0 8 rfl rfl)
theorem dX12_may_9 : decode cX12_may 9 = .ok (.getfield 1, 3) := dk_180 0 1 (dk_at dksX12_may_0 9 rfl rfl)
theorem dX12_may_12 : decode cX12_may 12 = .ok (.getfield 21, 3) := dk_180 0 21 (dk_at dksX12_may_0 12 rfl rfl)
theorem dX12_may_15 : decode cX12_may 15 = .ok (.iload_n 1, 1) := dk_27 (dk_at dksX12_may_0 15 rfl rfl)
theorem dX12_may_16 : decode cX12_may 16 = .ok (.iaload, 1) := dk_46 (dk_at dksX12_may_0 16 rfl rfl)
theorem dX12_may_17 : decode cX12_may 17 = .ok (.iconst 5, 1) := dk_8 (dk_at dksX12_may_0 17 rfl rfl)
theorem dX12_may_18 : decode cX12_may 18 = .ok (.if_icmp .le 7, 3) := dk_164 0 7 (dk_at dksX12_may_0 18 rfl rfl)
theorem dX12_may_21 : decode cX12_may 21 = .ok (.iconst 1, 1) := dk_4 (dk_at dksX12_may_0 21 rfl rfl)
theorem dX12_may_22 : decode cX12_may 22 = .ok (.goto 4, 3) := dk_167 0 4 (dk_at dksX12_may_1 0 rfl rfl)
theorem dX12_may_25 : decode cX12_may 25 = .ok (.iconst 0, 1) := dk_3 (dk_at dksX12_may_1 3 rfl rfl)
theorem dX12_may_26 : decode cX12_may 26 = .ok (.ireturn, 1) := dk_172 (dk_at dksX12_may_1 4 rfl rfl)
abbrev cX12_drag : ByteArray := prog_14_method_4_code
def yX12_drag : MethodName := ⟨RX12, "drag", "(I)I"⟩
theorem dX12_drag_0 : decode cX12_drag 0 = .ok (.aload_n 0, 1) := by decide +kernel
theorem dX12_drag_1 : decode cX12_drag 1 = .ok (.getfield 27, 3) := by decide +kernel
theorem dX12_drag_4 : decode cX12_drag 4 = .ok (.ireturn, 1) := by decide +kernel
abbrev cX12_pushes : ByteArray := prog_14_method_5_code
def yX12_pushes : MethodName := ⟨RX12, "pushes", "(II)I"⟩
def dkwX12_pushes_0 : List UInt8 := [16, 9, 42, 27, 28, 183, 0, 31, 184, 0, 35, 172]
abbrev dktX12_pushes_0 : List UInt8 := dkwX12_pushes_0 ++ []
theorem dksX12_pushes_0 : cX12_pushes.data.toList.drop 0 = dktX12_pushes_0 := by decide +kernel
theorem dX12_pushes_0 : decode cX12_pushes 0 = .ok (.bipush 9, 2) := dk_16 9 (dk_at dksX12_pushes_0 0 rfl rfl)
theorem dX12_pushes_2 : decode cX12_pushes 2 = .ok (.aload_n 0, 1) := dk_42 (dk_at dksX12_pushes_0 2 rfl rfl)
theorem dX12_pushes_3 : decode cX12_pushes 3 = .ok (.iload_n 1, 1) := dk_27 (dk_at dksX12_pushes_0 3 rfl rfl)
theorem dX12_pushes_4 : decode cX12_pushes 4 = .ok (.iload_n 2, 1) := dk_28 (dk_at dksX12_pushes_0 4 rfl rfl)
theorem dX12_pushes_5 : decode cX12_pushes 5 = .ok (.invokespecial 31, 3) := dk_183 0 31 (dk_at dksX12_pushes_0 5 rfl rfl)
theorem dX12_pushes_8 : decode cX12_pushes 8 = .ok (.invokestatic 35, 3) := dk_184 0 35 (dk_at dksX12_pushes_0 8 rfl rfl)
theorem dX12_pushes_11 : decode cX12_pushes 11 = .ok (.ireturn, 1) := dk_172 (dk_at dksX12_pushes_0 11 rfl rfl)
theorem q127 : (Jvm.Cond.initialized "WalkingStones$Whole") ∈ lw_all := lw_g (lw_at lw_m1 22 rfl) rfl
theorem q190 : (Jvm.Cond.fieldLink "WalkingStones$Whole" (27 : Nat) "WalkingStones$Whole" "number" "I") ∈ lw_all := lw_g (lw_at lw_m1 85 rfl) rfl
theorem q191 : (Jvm.Cond.sameField "WalkingStones$Whole" "WalkingStones$How" "number" "I") ∈ lw_all := lw_g (lw_at lw_m1 86 rfl) rfl
theorem q217 : (Jvm.Cond.instantiable "WalkingStones$Whole" (5 : Nat)) ∈ lw_all := lw_g (lw_at lw_m1 112 rfl) rfl
theorem q219 : (Jvm.Cond.instanceMethod ({ cls := "WalkingStones$Whole", name := "<init>", desc := "(LWalkingStones;I)V" } : Jvm.MethodName)) ∈ lw_all := lw_g (lw_at lw_m1 114 rfl) rfl
theorem q220 : (Jvm.Cond.code ({ cls := "WalkingStones$Whole", name := "<init>", desc := "(LWalkingStones;I)V" } : Jvm.MethodName) prog_14_method_1_code (3 : Nat) (Option.none : Option Jvm.ClassFile.FieldType)) ∈ lw_all := lw_g (lw_at lw_m1 115 rfl) rfl
theorem q221 : (Jvm.Cond.methodLink "WalkingStones$Whole" (7 : Nat) ({ cls := "WalkingStones$Raft", name := "<init>", desc := "(LWalkingStones;I)V" } : Jvm.MethodName)) ∈ lw_all := lw_g (lw_at lw_m1 116 rfl) rfl
theorem q222 : (Jvm.Cond.fieldLink "WalkingStones$Whole" (1 : Nat) "WalkingStones$Whole" "this$0" "LWalkingStones;") ∈ lw_all := lw_g (lw_at lw_m1 117 rfl) rfl
theorem q223 : (Jvm.Cond.laysFinal "WalkingStones$Whole" "WalkingStones$Whole" "this$0" "LWalkingStones;") ∈ lw_all := lw_g (lw_at lw_m1 118 rfl) rfl
theorem q224 : (Jvm.Cond.soleField "WalkingStones$Whole" "this$0") ∈ lw_all := lw_g (lw_at lw_m1 119 rfl) rfl
theorem q225 : (Jvm.Cond.laysFinal "WalkingStones$Whole" "WalkingStones$Raft" "this$0" "LWalkingStones;") ∈ lw_all := lw_g (lw_at lw_m1 120 rfl) rfl
theorem q226 : (Jvm.Cond.laysFinal "WalkingStones$Whole" "WalkingStones$Gust" "this$0" "LWalkingStones;") ∈ lw_all := lw_g (lw_at lw_m1 121 rfl) rfl
theorem q227 : (Jvm.Cond.laysFinal "WalkingStones$Whole" "WalkingStones$How" "number" "I") ∈ lw_all := lw_g (lw_at lw_m1 122 rfl) rfl
theorem q228 : (Jvm.Cond.laysFinal "WalkingStones$Whole" "WalkingStones$How" "this$0" "LWalkingStones;") ∈ lw_all := lw_g (lw_at lw_m1 123 rfl) rfl
theorem q229 : (Jvm.Cond.superclass "WalkingStones$Whole" "WalkingStones$Raft") ∈ lw_all := lw_g (lw_at lw_m1 124 rfl) rfl
theorem q298 : (Jvm.Cond.selects "WalkingStones$Whole" ({ cls := "WalkingStones$How", name := "may", desc := "(I)Z" } : Jvm.MethodName) ({ cls := "WalkingStones$Whole", name := "may", desc := "(I)Z" } : Jvm.MethodName)) ∈ lw_all := lw_g (lw_at lw_m1 193 rfl) rfl
theorem q299 : (Jvm.Cond.instanceMethod ({ cls := "WalkingStones$Whole", name := "may", desc := "(I)Z" } : Jvm.MethodName)) ∈ lw_all := lw_g (lw_at lw_m1 194 rfl) rfl
theorem q300 : (Jvm.Cond.code ({ cls := "WalkingStones$Whole", name := "may", desc := "(I)Z" } : Jvm.MethodName) prog_14_method_3_code (2 : Nat) (Option.some Jvm.ClassFile.FieldType.boolean)) ∈ lw_all := lw_g (lw_at lw_m1 195 rfl) rfl
theorem q301 : (Jvm.Cond.methodLink "WalkingStones$Whole" (17 : Nat) ({ cls := "WalkingStones$Raft", name := "may", desc := "(I)Z" } : Jvm.MethodName)) ∈ lw_all := lw_g (lw_at lw_m1 196 rfl) rfl
theorem q323 : (Jvm.Cond.selects "WalkingStones$Whole" ({ cls := "WalkingStones$How", name := "drag", desc := "(I)I" } : Jvm.MethodName) ({ cls := "WalkingStones$Whole", name := "drag", desc := "(I)I" } : Jvm.MethodName)) ∈ lw_all := lw_g (lw_at lw_m1 218 rfl) rfl
theorem q324 : (Jvm.Cond.instanceMethod ({ cls := "WalkingStones$Whole", name := "drag", desc := "(I)I" } : Jvm.MethodName)) ∈ lw_all := lw_g (lw_at lw_m1 219 rfl) rfl
theorem q325 : (Jvm.Cond.code ({ cls := "WalkingStones$Whole", name := "drag", desc := "(I)I" } : Jvm.MethodName) prog_14_method_4_code (2 : Nat) (Option.some Jvm.ClassFile.FieldType.int)) ∈ lw_all := lw_g (lw_at lw_m1 220 rfl) rfl
theorem q335 : (Jvm.Cond.selects "WalkingStones$Whole" ({ cls := "WalkingStones$How", name := "goesBy", desc := "(II)I" } : Jvm.MethodName) ({ cls := "WalkingStones$How", name := "goesBy", desc := "(II)I" } : Jvm.MethodName)) ∈ lw_all := lw_g (lw_at lw_m1 230 rfl) rfl
theorem q353 : (Jvm.Cond.selects "WalkingStones$Whole" ({ cls := "WalkingStones$How", name := "pushes", desc := "(II)I" } : Jvm.MethodName) ({ cls := "WalkingStones$Whole", name := "pushes", desc := "(II)I" } : Jvm.MethodName)) ∈ lw_all := lw_g (lw_at lw_m2 8 rfl) rfl
theorem q354 : (Jvm.Cond.instanceMethod ({ cls := "WalkingStones$Whole", name := "pushes", desc := "(II)I" } : Jvm.MethodName)) ∈ lw_all := lw_g (lw_at lw_m2 9 rfl) rfl
theorem q355 : (Jvm.Cond.code ({ cls := "WalkingStones$Whole", name := "pushes", desc := "(II)I" } : Jvm.MethodName) prog_14_method_5_code (3 : Nat) (Option.some Jvm.ClassFile.FieldType.int)) ∈ lw_all := lw_g (lw_at lw_m2 10 rfl) rfl
theorem q356 : (Jvm.Cond.methodLink "WalkingStones$Whole" (31 : Nat) ({ cls := "WalkingStones$Raft", name := "pushes", desc := "(II)I" } : Jvm.MethodName)) ∈ lw_all := lw_g (lw_at lw_m2 11 rfl) rfl
theorem q357 : (Jvm.Cond.methodLink "WalkingStones$Whole" (35 : Nat) ({ cls := "java/lang/Math", name := "min", desc := "(II)I" } : Jvm.MethodName)) ∈ lw_all := lw_g (lw_at lw_m2 12 rfl) rfl
theorem q767 : (Jvm.Cond.fieldLinkNest "WalkingStones$Whole" (21 : Nat) "WalkingStones" "ice" "[I" "WalkingStones") ∈ lw_tbl := lw_at lw_m3 182 rfl
theorem q959 : (Jvm.Cond.selects "WalkingStones$Whole" ({ cls := "WalkingStones$How", name := "way", desc := "(I)I" } : Jvm.MethodName) ({ cls := "WalkingStones$How", name := "way", desc := "(I)I" } : Jvm.MethodName)) ∈ lw_all := lw_g (lw_at lw_m4 134 rfl) rfl
theorem q1825 : (Jvm.Cond.selects "WalkingStones$Whole" ({ cls := "WalkingStones$How", name := "isWet", desc := "(I)Z" } : Jvm.MethodName) ({ cls := "WalkingStones$How", name := "isWet", desc := "(I)Z" } : Jvm.MethodName)) ∈ lw_all := lw_g (lw_at lw_m8 40 rfl) rfl
theorem q1832 : (Jvm.Cond.castable "WalkingStones$Whole" "WalkingStones$Gust") ∈ lw_tbl := lw_at lw_m8 47 rfl
theorem q1834 : (Jvm.Cond.castable "WalkingStones$Whole" "WalkingStones$Raft") ∈ lw_tbl := lw_at lw_m8 49 rfl
theorem q1841 : (Jvm.Cond.castable "WalkingStones$Whole" "WalkingStones$How") ∈ lw_tbl := lw_at lw_m8 56 rfl
theorem in_X12 : ∀ w ∈ wsX120, w ∈ lw_all := lw_in wsX120 [227, 228, 226, 225, 223] (by decide +kernel) (by decide +kernel)
/-! WalkingStones$Panes -/
set_option maxRecDepth 100000
def RX13 : String := "WalkingStones$Panes"
def TX13 : u_T := fun k => match k with
  | 0 => ("WalkingStones$How", "number", "I", true)
  | 1 => ("WalkingStones$How", "this$0", "LWalkingStones;", true)
  | 2 => ("WalkingStones$Gust", "this$0", "LWalkingStones;", true)
  | 3 => ("WalkingStones$Raft", "this$0", "LWalkingStones;", true)
  | _ => ("WalkingStones$Panes", "this$0", "LWalkingStones;", true)
def tyX13 : Nat → FieldType := fun k => match k with
  | 0 => .int
  | 1 => .object "WalkingStones"
  | 2 => .object "WalkingStones"
  | 3 => .object "WalkingStones"
  | _ => .object "WalkingStones"
abbrev wsX130 : List Cond := u_ws RX13 TX13 5
-- two fields of one name: no nmX13
theorem tyX13_ok : ∀ k, k < 5 → parseFieldDescriptor (TX13 k).2.2.1 = some (tyX13 k) := by decide +kernel
abbrev cX13_init : ByteArray := prog_8_method_1_code
def yX13_init : MethodName := ⟨RX13, "<init>", "(LWalkingStones;I)V"⟩
def dkwX13_init_0 : List UInt8 := [42, 43, 181, 0, 1, 42, 43, 28, 183, 0, 7, 177]
abbrev dktX13_init_0 : List UInt8 := dkwX13_init_0 ++ []
theorem dksX13_init_0 : cX13_init.data.toList.drop 0 = dktX13_init_0 := by decide +kernel
theorem dX13_init_0 : decode cX13_init 0 = .ok (.aload_n 0, 1) := dk_42 (dk_at dksX13_init_0 0 rfl rfl)
theorem dX13_init_1 : decode cX13_init 1 = .ok (.aload_n 1, 1) := dk_43 (dk_at dksX13_init_0 1 rfl rfl)
theorem dX13_init_2 : decode cX13_init 2 = .ok (.putfield 1, 3) := dk_181 0 1 (dk_at dksX13_init_0 2 rfl rfl)
theorem dX13_init_5 : decode cX13_init 5 = .ok (.aload_n 0, 1) := dk_42 (dk_at dksX13_init_0 5 rfl rfl)
theorem dX13_init_6 : decode cX13_init 6 = .ok (.aload_n 1, 1) := dk_43 (dk_at dksX13_init_0 6 rfl rfl)
theorem dX13_init_7 : decode cX13_init 7 = .ok (.iload_n 2, 1) := dk_28 (dk_at dksX13_init_0 7 rfl rfl)
theorem dX13_init_8 : decode cX13_init 8 = .ok (.invokespecial 7, 3) := dk_183 0 7 (dk_at dksX13_init_0 8 rfl rfl)
theorem dX13_init_11 : decode cX13_init 11 = .ok (.return_, 1) := dk_177 (dk_at dksX13_init_0 11 rfl rfl)
abbrev cX13_may : ByteArray := prog_8_method_3_code
def yX13_may : MethodName := ⟨RX13, "may", "(I)Z"⟩
def dkwX13_may_1 : List UInt8 := [184, 0, 29, 153, 0, 7, 4, 167, 0, 4, 3, 172]
abbrev dktX13_may_1 : List UInt8 := dkwX13_may_1 ++ []
def dkwX13_may_0 : List UInt8 := [42, 27, 182, 0, 17, 153, 0, 27, 42, 180, 0, 1, 180, 0, 21, 27, 46, 133, 10, 20, 0, 27]
abbrev dktX13_may_0 : List UInt8 := dkwX13_may_0 ++ dktX13_may_1
theorem dksX13_may_0 : cX13_may.data.toList.drop 0 = dktX13_may_0 := by decide +kernel
theorem dksX13_may_1 : cX13_may.data.toList.drop 22 = dktX13_may_1 := dk_seg dksX13_may_0 22 rfl rfl
theorem dX13_may_0 : decode cX13_may 0 = .ok (.aload_n 0, 1) := dk_42 (dk_at dksX13_may_0 0 rfl rfl)
theorem dX13_may_1 : decode cX13_may 1 = .ok (.iload_n 1, 1) := dk_27 (dk_at dksX13_may_0 1 rfl rfl)
theorem dX13_may_2 : decode cX13_may 2 = .ok (.invokevirtual 17, 3) := dk_182 0 17 (dk_at dksX13_may_0 2 rfl rfl)
theorem dX13_may_5 : decode cX13_may 5 = .ok (.ifCond .eq 27, 3) := dk_153 0 27 (dk_at dksX13_may_0 5 rfl rfl)
theorem dX13_may_8 : decode cX13_may 8 = .ok (.aload_n 0, 1) := dk_42 (dk_at dksX13_may_0 8 rfl rfl)
theorem dX13_may_9 : decode cX13_may 9 = .ok (.getfield 1, 3) := dk_180 0 1 (dk_at dksX13_may_0 9 rfl rfl)
theorem dX13_may_12 : decode cX13_may 12 = .ok (.getfield 21, 3) := dk_180 0 21 (dk_at dksX13_may_0 12 rfl rfl)
theorem dX13_may_15 : decode cX13_may 15 = .ok (.iload_n 1, 1) := dk_27 (dk_at dksX13_may_0 15 rfl rfl)
theorem dX13_may_16 : decode cX13_may 16 = .ok (.iaload, 1) := dk_46 (dk_at dksX13_may_0 16 rfl rfl)
theorem dX13_may_17 : decode cX13_may 17 = .ok (.i2l, 1) := dk_133 (dk_at dksX13_may_0 17 rfl rfl)
theorem dX13_may_18 : decode cX13_may 18 = .ok (.lconst 1, 1) := dk_10 (dk_at dksX13_may_0 18 rfl rfl)
theorem dX13_may_19 : decode cX13_may 19 = .ok (.ldc2_w 27, 3) := dk_20 0 27 (dk_at dksX13_may_0 19 rfl rfl)
theorem dX13_may_22 : decode cX13_may 22 = .ok (.invokestatic 29, 3) := dk_184 0 29 (dk_at dksX13_may_1 0 rfl rfl)
theorem dX13_may_25 : decode cX13_may 25 = .ok (.ifCond .eq 7, 3) := dk_153 0 7 (dk_at dksX13_may_1 3 rfl rfl)
theorem dX13_may_28 : decode cX13_may 28 = .ok (.iconst 1, 1) := dk_4 (dk_at dksX13_may_1 6 rfl rfl)
theorem dX13_may_29 : decode cX13_may 29 = .ok (.goto 4, 3) := dk_167 0 4 (dk_at dksX13_may_1 7 rfl rfl)
theorem dX13_may_32 : decode cX13_may 32 = .ok (.iconst 0, 1) := dk_3 (dk_at dksX13_may_1 10 rfl rfl)
theorem dX13_may_33 : decode cX13_may 33 = .ok (.ireturn, 1) := dk_172 (dk_at dksX13_may_1 11 rfl rfl)
abbrev cX13_drag : ByteArray := prog_8_method_4_code
def yX13_drag : MethodName := ⟨RX13, "drag", "(I)I"⟩
def dkwX13_drag_0 : List UInt8 := [42, 27, 183, 0, 33, 5, 108, 172]
abbrev dktX13_drag_0 : List UInt8 := dkwX13_drag_0 ++ []
theorem dksX13_drag_0 : cX13_drag.data.toList.drop 0 = dktX13_drag_0 := by decide +kernel
theorem dX13_drag_0 : decode cX13_drag 0 = .ok (.aload_n 0, 1) := dk_42 (dk_at dksX13_drag_0 0 rfl rfl)
theorem dX13_drag_1 : decode cX13_drag 1 = .ok (.iload_n 1, 1) := dk_27 (dk_at dksX13_drag_0 1 rfl rfl)
theorem dX13_drag_2 : decode cX13_drag 2 = .ok (.invokespecial 33, 3) := dk_183 0 33 (dk_at dksX13_drag_0 2 rfl rfl)
theorem dX13_drag_5 : decode cX13_drag 5 = .ok (.iconst 2, 1) := dk_5 (dk_at dksX13_drag_0 5 rfl rfl)
theorem dX13_drag_6 : decode cX13_drag 6 = .ok (.idiv, 1) := dk_108 (dk_at dksX13_drag_0 6 rfl rfl)
theorem dX13_drag_7 : decode cX13_drag 7 = .ok (.ireturn, 1) := dk_172 (dk_at dksX13_drag_0 7 rfl rfl)
abbrev cX13_pushes : ByteArray := prog_8_method_5_code
def yX13_pushes : MethodName := ⟨RX13, "pushes", "(II)I"⟩
def dkwX13_pushes_0 : List UInt8 := [42, 27, 28, 183, 0, 37, 62, 29, 158, 0, 9, 29, 4, 96, 167, 0, 4, 3, 172]
abbrev dktX13_pushes_0 : List UInt8 := dkwX13_pushes_0 ++ []
theorem dksX13_pushes_0 : cX13_pushes.data.toList.drop 0 = dktX13_pushes_0 := by decide +kernel
theorem dX13_pushes_0 : decode cX13_pushes 0 = .ok (.aload_n 0, 1) := dk_42 (dk_at dksX13_pushes_0 0 rfl rfl)
theorem dX13_pushes_1 : decode cX13_pushes 1 = .ok (.iload_n 1, 1) := dk_27 (dk_at dksX13_pushes_0 1 rfl rfl)
theorem dX13_pushes_2 : decode cX13_pushes 2 = .ok (.iload_n 2, 1) := dk_28 (dk_at dksX13_pushes_0 2 rfl rfl)
theorem dX13_pushes_3 : decode cX13_pushes 3 = .ok (.invokespecial 37, 3) := dk_183 0 37 (dk_at dksX13_pushes_0 3 rfl rfl)
theorem dX13_pushes_6 : decode cX13_pushes 6 = .ok (.istore_n 3, 1) := dk_62 (dk_at dksX13_pushes_0 6 rfl rfl)
theorem dX13_pushes_7 : decode cX13_pushes 7 = .ok (.iload_n 3, 1) := dk_29 (dk_at dksX13_pushes_0 7 rfl rfl)
theorem dX13_pushes_8 : decode cX13_pushes 8 = .ok (.ifCond .le 9, 3) := dk_158 0 9 (dk_at dksX13_pushes_0 8 rfl rfl)
theorem dX13_pushes_11 : decode cX13_pushes 11 = .ok (.iload_n 3, 1) := dk_29 (dk_at dksX13_pushes_0 11 rfl rfl)
theorem dX13_pushes_12 : decode cX13_pushes 12 = .ok (.iconst 1, 1) := dk_4 (dk_at dksX13_pushes_0 12 rfl rfl)
theorem dX13_pushes_13 : decode cX13_pushes 13 = .ok (.iadd, 1) := dk_96 (dk_at dksX13_pushes_0 13 rfl rfl)
theorem dX13_pushes_14 : decode cX13_pushes 14 = .ok (.goto 4, 3) := dk_167 0 4 (dk_at dksX13_pushes_0 14 rfl rfl)
theorem dX13_pushes_17 : decode cX13_pushes 17 = .ok (.iconst 0, 1) := dk_3 (dk_at dksX13_pushes_0 17 rfl rfl)
theorem dX13_pushes_18 : decode cX13_pushes 18 = .ok (.ireturn, 1) := dk_172 (dk_at dksX13_pushes_0 18 rfl rfl)
theorem q128 : (Jvm.Cond.initialized "WalkingStones$Panes") ∈ lw_all := lw_g (lw_at lw_m1 23 rfl) rfl
theorem q231 : (Jvm.Cond.instantiable "WalkingStones$Panes" (5 : Nat)) ∈ lw_all := lw_g (lw_at lw_m1 126 rfl) rfl
theorem q233 : (Jvm.Cond.instanceMethod ({ cls := "WalkingStones$Panes", name := "<init>", desc := "(LWalkingStones;I)V" } : Jvm.MethodName)) ∈ lw_all := lw_g (lw_at lw_m1 128 rfl) rfl
theorem q234 : (Jvm.Cond.code ({ cls := "WalkingStones$Panes", name := "<init>", desc := "(LWalkingStones;I)V" } : Jvm.MethodName) prog_8_method_1_code (3 : Nat) (Option.none : Option Jvm.ClassFile.FieldType)) ∈ lw_all := lw_g (lw_at lw_m1 129 rfl) rfl
theorem q235 : (Jvm.Cond.methodLink "WalkingStones$Panes" (7 : Nat) ({ cls := "WalkingStones$Raft", name := "<init>", desc := "(LWalkingStones;I)V" } : Jvm.MethodName)) ∈ lw_all := lw_g (lw_at lw_m1 130 rfl) rfl
theorem q236 : (Jvm.Cond.fieldLink "WalkingStones$Panes" (1 : Nat) "WalkingStones$Panes" "this$0" "LWalkingStones;") ∈ lw_all := lw_g (lw_at lw_m1 131 rfl) rfl
theorem q237 : (Jvm.Cond.laysFinal "WalkingStones$Panes" "WalkingStones$Panes" "this$0" "LWalkingStones;") ∈ lw_all := lw_g (lw_at lw_m1 132 rfl) rfl
theorem q238 : (Jvm.Cond.soleField "WalkingStones$Panes" "this$0") ∈ lw_all := lw_g (lw_at lw_m1 133 rfl) rfl
theorem q239 : (Jvm.Cond.laysFinal "WalkingStones$Panes" "WalkingStones$Raft" "this$0" "LWalkingStones;") ∈ lw_all := lw_g (lw_at lw_m1 134 rfl) rfl
theorem q240 : (Jvm.Cond.laysFinal "WalkingStones$Panes" "WalkingStones$Gust" "this$0" "LWalkingStones;") ∈ lw_all := lw_g (lw_at lw_m1 135 rfl) rfl
theorem q241 : (Jvm.Cond.laysFinal "WalkingStones$Panes" "WalkingStones$How" "number" "I") ∈ lw_all := lw_g (lw_at lw_m1 136 rfl) rfl
theorem q242 : (Jvm.Cond.laysFinal "WalkingStones$Panes" "WalkingStones$How" "this$0" "LWalkingStones;") ∈ lw_all := lw_g (lw_at lw_m1 137 rfl) rfl
theorem q243 : (Jvm.Cond.superclass "WalkingStones$Panes" "WalkingStones$Raft") ∈ lw_all := lw_g (lw_at lw_m1 138 rfl) rfl
theorem q280 : (Jvm.Cond.selects "WalkingStones$Panes" ({ cls := "WalkingStones$How", name := "may", desc := "(I)Z" } : Jvm.MethodName) ({ cls := "WalkingStones$Panes", name := "may", desc := "(I)Z" } : Jvm.MethodName)) ∈ lw_all := lw_g (lw_at lw_m1 175 rfl) rfl
theorem q281 : (Jvm.Cond.instanceMethod ({ cls := "WalkingStones$Panes", name := "may", desc := "(I)Z" } : Jvm.MethodName)) ∈ lw_all := lw_g (lw_at lw_m1 176 rfl) rfl
theorem q282 : (Jvm.Cond.code ({ cls := "WalkingStones$Panes", name := "may", desc := "(I)Z" } : Jvm.MethodName) prog_8_method_3_code (2 : Nat) (Option.some Jvm.ClassFile.FieldType.boolean)) ∈ lw_all := lw_g (lw_at lw_m1 177 rfl) rfl
theorem q283 : (Jvm.Cond.methodLink "WalkingStones$Panes" (17 : Nat) ({ cls := "WalkingStones$Panes", name := "isWet", desc := "(I)Z" } : Jvm.MethodName)) ∈ lw_all := lw_g (lw_at lw_m1 178 rfl) rfl
theorem q284 : (Jvm.Cond.sameMethod "WalkingStones$Panes" "WalkingStones$How" "isWet" "(I)Z") ∈ lw_all := lw_g (lw_at lw_m1 179 rfl) rfl
theorem q286 : (Jvm.Cond.selects "WalkingStones$Panes" ({ cls := "WalkingStones$Panes", name := "isWet", desc := "(I)Z" } : Jvm.MethodName) ({ cls := "WalkingStones$How", name := "isWet", desc := "(I)Z" } : Jvm.MethodName)) ∈ lw_all := lw_g (lw_at lw_m1 181 rfl) rfl
theorem q289 : (Jvm.Cond.constantLong "WalkingStones$Panes" (27 : Nat) (4 : Int64)) ∈ lw_all := lw_g (lw_at lw_m1 184 rfl) rfl
theorem q290 : (Jvm.Cond.methodLinkNest "WalkingStones$Panes" (29 : Nat) ({ cls := "WalkingStones", name := "in", desc := "(JJJ)Z" } : Jvm.MethodName) "WalkingStones") ∈ lw_tbl := lw_at lw_m1 185 rfl
theorem q312 : (Jvm.Cond.selects "WalkingStones$Panes" ({ cls := "WalkingStones$How", name := "drag", desc := "(I)I" } : Jvm.MethodName) ({ cls := "WalkingStones$Panes", name := "drag", desc := "(I)I" } : Jvm.MethodName)) ∈ lw_all := lw_g (lw_at lw_m1 207 rfl) rfl
theorem q313 : (Jvm.Cond.instanceMethod ({ cls := "WalkingStones$Panes", name := "drag", desc := "(I)I" } : Jvm.MethodName)) ∈ lw_all := lw_g (lw_at lw_m1 208 rfl) rfl
theorem q314 : (Jvm.Cond.code ({ cls := "WalkingStones$Panes", name := "drag", desc := "(I)I" } : Jvm.MethodName) prog_8_method_4_code (2 : Nat) (Option.some Jvm.ClassFile.FieldType.int)) ∈ lw_all := lw_g (lw_at lw_m1 209 rfl) rfl
theorem q315 : (Jvm.Cond.methodLink "WalkingStones$Panes" (33 : Nat) ({ cls := "WalkingStones$Raft", name := "drag", desc := "(I)I" } : Jvm.MethodName)) ∈ lw_all := lw_g (lw_at lw_m1 210 rfl) rfl
theorem q332 : (Jvm.Cond.selects "WalkingStones$Panes" ({ cls := "WalkingStones$How", name := "goesBy", desc := "(II)I" } : Jvm.MethodName) ({ cls := "WalkingStones$How", name := "goesBy", desc := "(II)I" } : Jvm.MethodName)) ∈ lw_all := lw_g (lw_at lw_m1 227 rfl) rfl
theorem q343 : (Jvm.Cond.selects "WalkingStones$Panes" ({ cls := "WalkingStones$How", name := "pushes", desc := "(II)I" } : Jvm.MethodName) ({ cls := "WalkingStones$Panes", name := "pushes", desc := "(II)I" } : Jvm.MethodName)) ∈ lw_all := lw_g (lw_at lw_m1 238 rfl) rfl
theorem q344 : (Jvm.Cond.instanceMethod ({ cls := "WalkingStones$Panes", name := "pushes", desc := "(II)I" } : Jvm.MethodName)) ∈ lw_all := lw_g (lw_at lw_m1 239 rfl) rfl
theorem q345 : (Jvm.Cond.code ({ cls := "WalkingStones$Panes", name := "pushes", desc := "(II)I" } : Jvm.MethodName) prog_8_method_5_code (4 : Nat) (Option.some Jvm.ClassFile.FieldType.int)) ∈ lw_all := lw_g (lw_at lw_m2 0 rfl) rfl
theorem q346 : (Jvm.Cond.methodLink "WalkingStones$Panes" (37 : Nat) ({ cls := "WalkingStones$Raft", name := "pushes", desc := "(II)I" } : Jvm.MethodName)) ∈ lw_all := lw_g (lw_at lw_m2 1 rfl) rfl
theorem q765 : (Jvm.Cond.fieldLinkNest "WalkingStones$Panes" (21 : Nat) "WalkingStones" "ice" "[I" "WalkingStones") ∈ lw_tbl := lw_at lw_m3 180 rfl
theorem q954 : (Jvm.Cond.selects "WalkingStones$Panes" ({ cls := "WalkingStones$How", name := "way", desc := "(I)I" } : Jvm.MethodName) ({ cls := "WalkingStones$How", name := "way", desc := "(I)I" } : Jvm.MethodName)) ∈ lw_all := lw_g (lw_at lw_m4 129 rfl) rfl
theorem q1822 : (Jvm.Cond.selects "WalkingStones$Panes" ({ cls := "WalkingStones$How", name := "isWet", desc := "(I)Z" } : Jvm.MethodName) ({ cls := "WalkingStones$How", name := "isWet", desc := "(I)Z" } : Jvm.MethodName)) ∈ lw_all := lw_g (lw_at lw_m8 37 rfl) rfl
theorem q1830 : (Jvm.Cond.castable "WalkingStones$Panes" "WalkingStones$Gust") ∈ lw_tbl := lw_at lw_m8 45 rfl
theorem q1833 : (Jvm.Cond.castable "WalkingStones$Panes" "WalkingStones$Raft") ∈ lw_tbl := lw_at lw_m8 48 rfl
theorem q1842 : (Jvm.Cond.castable "WalkingStones$Panes" "WalkingStones$How") ∈ lw_tbl := lw_at lw_m8 57 rfl
theorem in_X13 : ∀ w ∈ wsX130, w ∈ lw_all := lw_in wsX130 [241, 242, 240, 239, 237] (by decide +kernel) (by decide +kernel)
/-! WalkingStones$Slope -/
set_option maxRecDepth 100000
def RX14 : String := "WalkingStones$Slope"
def TX14 : u_T := fun k => match k with
  | 0 => ("WalkingStones$How", "number", "I", true)
  | 1 => ("WalkingStones$How", "this$0", "LWalkingStones;", true)
  | _ => ("WalkingStones$Slope", "this$0", "LWalkingStones;", true)
def tyX14 : Nat → FieldType := fun k => match k with
  | 0 => .int
  | 1 => .object "WalkingStones"
  | _ => .object "WalkingStones"
abbrev wsX140 : List Cond := u_ws RX14 TX14 3
-- two fields of one name: no nmX14
theorem tyX14_ok : ∀ k, k < 3 → parseFieldDescriptor (TX14 k).2.2.1 = some (tyX14 k) := by decide +kernel
abbrev cX14_init : ByteArray := prog_11_method_1_code
def yX14_init : MethodName := ⟨RX14, "<init>", "(LWalkingStones;I)V"⟩
def dkwX14_init_0 : List UInt8 := [42, 43, 181, 0, 1, 42, 43, 28, 183, 0, 7, 177]
abbrev dktX14_init_0 : List UInt8 := dkwX14_init_0 ++ []
theorem dksX14_init_0 : cX14_init.data.toList.drop 0 = dktX14_init_0 := by decide +kernel
theorem dX14_init_0 : decode cX14_init 0 = .ok (.aload_n 0, 1) := dk_42 (dk_at dksX14_init_0 0 rfl rfl)
theorem dX14_init_1 : decode cX14_init 1 = .ok (.aload_n 1, 1) := dk_43 (dk_at dksX14_init_0 1 rfl rfl)
theorem dX14_init_2 : decode cX14_init 2 = .ok (.putfield 1, 3) := dk_181 0 1 (dk_at dksX14_init_0 2 rfl rfl)
theorem dX14_init_5 : decode cX14_init 5 = .ok (.aload_n 0, 1) := dk_42 (dk_at dksX14_init_0 5 rfl rfl)
theorem dX14_init_6 : decode cX14_init 6 = .ok (.aload_n 1, 1) := dk_43 (dk_at dksX14_init_0 6 rfl rfl)
theorem dX14_init_7 : decode cX14_init 7 = .ok (.iload_n 2, 1) := dk_28 (dk_at dksX14_init_0 7 rfl rfl)
theorem dX14_init_8 : decode cX14_init 8 = .ok (.invokespecial 7, 3) := dk_183 0 7 (dk_at dksX14_init_0 8 rfl rfl)
theorem dX14_init_11 : decode cX14_init 11 = .ok (.return_, 1) := dk_177 (dk_at dksX14_init_0 11 rfl rfl)
abbrev cX14_drag : ByteArray := prog_11_method_3_code
def yX14_drag : MethodName := ⟨RX14, "drag", "(I)I"⟩
theorem dX14_drag_0 : decode cX14_drag 0 = .ok (.iconst 0, 1) := by decide +kernel
theorem dX14_drag_1 : decode cX14_drag 1 = .ok (.ireturn, 1) := by decide +kernel
abbrev cX14_pushes : ByteArray := prog_11_method_4_code
def yX14_pushes : MethodName := ⟨RX14, "pushes", "(II)I"⟩
def dkwX14_pushes_0 : List UInt8 := [42, 180, 0, 17, 27, 8, 108, 164, 0, 7, 4, 167, 0, 4, 3, 172]
abbrev dktX14_pushes_0 : List UInt8 := dkwX14_pushes_0 ++ []
theorem dksX14_pushes_0 : cX14_pushes.data.toList.drop 0 = dktX14_pushes_0 := by decide +kernel
theorem dX14_pushes_0 : decode cX14_pushes 0 = .ok (.aload_n 0, 1) := dk_42 (dk_at dksX14_pushes_0 0 rfl rfl)
theorem dX14_pushes_1 : decode cX14_pushes 1 = .ok (.getfield 17, 3) := dk_180 0 17 (dk_at dksX14_pushes_0 1 rfl rfl)
theorem dX14_pushes_4 : decode cX14_pushes 4 = .ok (.iload_n 1, 1) := dk_27 (dk_at dksX14_pushes_0 4 rfl rfl)
theorem dX14_pushes_5 : decode cX14_pushes 5 = .ok (.iconst 5, 1) := dk_8 (dk_at dksX14_pushes_0 5 rfl rfl)
theorem dX14_pushes_6 : decode cX14_pushes 6 = .ok (.idiv, 1) := dk_108 (dk_at dksX14_pushes_0 6 rfl rfl)
theorem dX14_pushes_7 : decode cX14_pushes 7 = .ok (.if_icmp .le 7, 3) := dk_164 0 7 (dk_at dksX14_pushes_0 7 rfl rfl)
theorem dX14_pushes_10 : decode cX14_pushes 10 = .ok (.iconst 1, 1) := dk_4 (dk_at dksX14_pushes_0 10 rfl rfl)
theorem dX14_pushes_11 : decode cX14_pushes 11 = .ok (.goto 4, 3) := dk_167 0 4 (dk_at dksX14_pushes_0 11 rfl rfl)
theorem dX14_pushes_14 : decode cX14_pushes 14 = .ok (.iconst 0, 1) := dk_3 (dk_at dksX14_pushes_0 14 rfl rfl)
theorem dX14_pushes_15 : decode cX14_pushes 15 = .ok (.ireturn, 1) := dk_172 (dk_at dksX14_pushes_0 15 rfl rfl)
abbrev cX14_way : ByteArray := prog_11_method_5_code
def yX14_way : MethodName := ⟨RX14, "way", "(I)I"⟩
theorem dX14_way_0 : decode cX14_way 0 = .ok (.iconst 1, 1) := by decide +kernel
theorem dX14_way_1 : decode cX14_way 1 = .ok (.ireturn, 1) := by decide +kernel
theorem q129 : (Jvm.Cond.initialized "WalkingStones$Slope") ∈ lw_all := lw_g (lw_at lw_m1 24 rfl) rfl
theorem q192 : (Jvm.Cond.fieldLink "WalkingStones$Slope" (17 : Nat) "WalkingStones$Slope" "number" "I") ∈ lw_all := lw_g (lw_at lw_m1 87 rfl) rfl
theorem q193 : (Jvm.Cond.sameField "WalkingStones$Slope" "WalkingStones$How" "number" "I") ∈ lw_all := lw_g (lw_at lw_m1 88 rfl) rfl
theorem q245 : (Jvm.Cond.instantiable "WalkingStones$Slope" (3 : Nat)) ∈ lw_all := lw_g (lw_at lw_m1 140 rfl) rfl
theorem q247 : (Jvm.Cond.instanceMethod ({ cls := "WalkingStones$Slope", name := "<init>", desc := "(LWalkingStones;I)V" } : Jvm.MethodName)) ∈ lw_all := lw_g (lw_at lw_m1 142 rfl) rfl
theorem q248 : (Jvm.Cond.code ({ cls := "WalkingStones$Slope", name := "<init>", desc := "(LWalkingStones;I)V" } : Jvm.MethodName) prog_11_method_1_code (3 : Nat) (Option.none : Option Jvm.ClassFile.FieldType)) ∈ lw_all := lw_g (lw_at lw_m1 143 rfl) rfl
theorem q249 : (Jvm.Cond.methodLink "WalkingStones$Slope" (7 : Nat) ({ cls := "WalkingStones$How", name := "<init>", desc := "(LWalkingStones;I)V" } : Jvm.MethodName)) ∈ lw_all := lw_g (lw_at lw_m1 144 rfl) rfl
theorem q250 : (Jvm.Cond.fieldLink "WalkingStones$Slope" (1 : Nat) "WalkingStones$Slope" "this$0" "LWalkingStones;") ∈ lw_all := lw_g (lw_at lw_m1 145 rfl) rfl
theorem q251 : (Jvm.Cond.laysFinal "WalkingStones$Slope" "WalkingStones$Slope" "this$0" "LWalkingStones;") ∈ lw_all := lw_g (lw_at lw_m1 146 rfl) rfl
theorem q252 : (Jvm.Cond.soleField "WalkingStones$Slope" "this$0") ∈ lw_all := lw_g (lw_at lw_m1 147 rfl) rfl
theorem q253 : (Jvm.Cond.laysFinal "WalkingStones$Slope" "WalkingStones$How" "number" "I") ∈ lw_all := lw_g (lw_at lw_m1 148 rfl) rfl
theorem q254 : (Jvm.Cond.laysFinal "WalkingStones$Slope" "WalkingStones$How" "this$0" "LWalkingStones;") ∈ lw_all := lw_g (lw_at lw_m1 149 rfl) rfl
theorem q255 : (Jvm.Cond.superclass "WalkingStones$Slope" "WalkingStones$How") ∈ lw_all := lw_g (lw_at lw_m1 150 rfl) rfl
theorem q297 : (Jvm.Cond.selects "WalkingStones$Slope" ({ cls := "WalkingStones$How", name := "may", desc := "(I)Z" } : Jvm.MethodName) ({ cls := "WalkingStones$How", name := "may", desc := "(I)Z" } : Jvm.MethodName)) ∈ lw_all := lw_g (lw_at lw_m1 192 rfl) rfl
theorem q320 : (Jvm.Cond.selects "WalkingStones$Slope" ({ cls := "WalkingStones$How", name := "drag", desc := "(I)I" } : Jvm.MethodName) ({ cls := "WalkingStones$Slope", name := "drag", desc := "(I)I" } : Jvm.MethodName)) ∈ lw_all := lw_g (lw_at lw_m1 215 rfl) rfl
theorem q321 : (Jvm.Cond.instanceMethod ({ cls := "WalkingStones$Slope", name := "drag", desc := "(I)I" } : Jvm.MethodName)) ∈ lw_all := lw_g (lw_at lw_m1 216 rfl) rfl
theorem q322 : (Jvm.Cond.code ({ cls := "WalkingStones$Slope", name := "drag", desc := "(I)I" } : Jvm.MethodName) prog_11_method_3_code (2 : Nat) (Option.some Jvm.ClassFile.FieldType.int)) ∈ lw_all := lw_g (lw_at lw_m1 217 rfl) rfl
theorem q334 : (Jvm.Cond.selects "WalkingStones$Slope" ({ cls := "WalkingStones$How", name := "goesBy", desc := "(II)I" } : Jvm.MethodName) ({ cls := "WalkingStones$How", name := "goesBy", desc := "(II)I" } : Jvm.MethodName)) ∈ lw_all := lw_g (lw_at lw_m1 229 rfl) rfl
theorem q350 : (Jvm.Cond.selects "WalkingStones$Slope" ({ cls := "WalkingStones$How", name := "pushes", desc := "(II)I" } : Jvm.MethodName) ({ cls := "WalkingStones$Slope", name := "pushes", desc := "(II)I" } : Jvm.MethodName)) ∈ lw_all := lw_g (lw_at lw_m2 5 rfl) rfl
theorem q351 : (Jvm.Cond.instanceMethod ({ cls := "WalkingStones$Slope", name := "pushes", desc := "(II)I" } : Jvm.MethodName)) ∈ lw_all := lw_g (lw_at lw_m2 6 rfl) rfl
theorem q352 : (Jvm.Cond.code ({ cls := "WalkingStones$Slope", name := "pushes", desc := "(II)I" } : Jvm.MethodName) prog_11_method_4_code (3 : Nat) (Option.some Jvm.ClassFile.FieldType.int)) ∈ lw_all := lw_g (lw_at lw_m2 7 rfl) rfl
theorem q956 : (Jvm.Cond.selects "WalkingStones$Slope" ({ cls := "WalkingStones$How", name := "way", desc := "(I)I" } : Jvm.MethodName) ({ cls := "WalkingStones$Slope", name := "way", desc := "(I)I" } : Jvm.MethodName)) ∈ lw_all := lw_g (lw_at lw_m4 131 rfl) rfl
theorem q957 : (Jvm.Cond.instanceMethod ({ cls := "WalkingStones$Slope", name := "way", desc := "(I)I" } : Jvm.MethodName)) ∈ lw_all := lw_g (lw_at lw_m4 132 rfl) rfl
theorem q958 : (Jvm.Cond.code ({ cls := "WalkingStones$Slope", name := "way", desc := "(I)I" } : Jvm.MethodName) prog_11_method_5_code (2 : Nat) (Option.some Jvm.ClassFile.FieldType.int)) ∈ lw_all := lw_g (lw_at lw_m4 133 rfl) rfl
theorem q1824 : (Jvm.Cond.selects "WalkingStones$Slope" ({ cls := "WalkingStones$How", name := "isWet", desc := "(I)Z" } : Jvm.MethodName) ({ cls := "WalkingStones$How", name := "isWet", desc := "(I)Z" } : Jvm.MethodName)) ∈ lw_all := lw_g (lw_at lw_m8 39 rfl) rfl
theorem q1843 : (Jvm.Cond.castable "WalkingStones$Slope" "WalkingStones$How") ∈ lw_tbl := lw_at lw_m8 58 rfl
theorem in_X14 : ∀ w ∈ wsX140, w ∈ lw_all := lw_in wsX140 [253, 254, 251] (by decide +kernel) (by decide +kernel)
