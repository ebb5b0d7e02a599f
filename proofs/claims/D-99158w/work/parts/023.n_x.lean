/-! FourOnOne$House -/
set_option maxRecDepth 100000
def RX1 : String := "FourOnOne$House"
def TX1 : u_T := fun k => match k with
  | 0 => ("FourOnOne$House", "statements", "I", false)
  | 1 => ("FourOnOne$House", "presses", "I", false)
  | 2 => ("FourOnOne$House", "screens", "I", false)
  | 3 => ("FourOnOne$House", "price", "I", false)
  | 4 => ("FourOnOne$House", "bother", "I", false)
  | 5 => ("FourOnOne$House", "strange", "I", false)
  | 6 => ("FourOnOne$House", "kinds", "Ljava/util/List;", true)
  | 7 => ("FourOnOne$House", "films", "Ljava/util/List;", true)
  | 8 => ("FourOnOne$House", "people", "Ljava/util/List;", true)
  | 9 => ("FourOnOne$House", "learns", "LFourOnOne$Value;", false)
  | 10 => ("FourOnOne$House", "fades", "LFourOnOne$Value;", false)
  | _ => ("FourOnOne$House", "may", "LFourOnOne$Test;", false)
def tyX1 : Nat → FieldType := fun k => match k with
  | 0 => .int
  | 1 => .int
  | 2 => .int
  | 3 => .int
  | 4 => .int
  | 5 => .int
  | 6 => .object "java/util/List"
  | 7 => .object "java/util/List"
  | 8 => .object "java/util/List"
  | 9 => .object "FourOnOne$Value"
  | 10 => .object "FourOnOne$Value"
  | _ => .object "FourOnOne$Test"
abbrev wsX10 : List Cond := u_ws RX1 TX1 12
theorem nmX1 : ∀ a, a < 12 → ∀ b, b < 12 → a ≠ b → (TX1 a).2.1 ≠ (TX1 b).2.1 := by decide +kernel
theorem tyX1_ok : ∀ k, k < 12 → parseFieldDescriptor (TX1 k).2.2.1 = some (tyX1 k) := by decide +kernel
abbrev cX1_init : ByteArray := prog_9_method_1_code
def yX1_init : MethodName := ⟨RX1, "<init>", "()V"⟩
def dkwX1_init_1 : List UInt8 := [187, 0, 15, 89, 7, 183, 0, 17, 181, 0, 24, 42, 187, 0, 15, 89, 5, 183, 0, 17, 181, 0, 27, 177]
abbrev dktX1_init_1 : List UInt8 := dkwX1_init_1 ++ []
def dkwX1_init_0 : List UInt8 := [42, 183, 0, 3, 42, 8, 181, 0, 9, 42, 187, 0, 15, 89, 7, 183, 0, 17, 181, 0, 20, 42]
abbrev dktX1_init_0 : List UInt8 := dkwX1_init_0 ++ dktX1_init_1
theorem dksX1_init_0 : cX1_init.data.toList.drop 0 = dktX1_init_0 := by decide +kernel
theorem dksX1_init_1 : cX1_init.data.toList.drop 22 = dktX1_init_1 := dk_seg dksX1_init_0 22 rfl rfl
theorem dX1_init_0 : decode cX1_init 0 = .ok (.aload_n 0, 1) := dk_42 (dk_at dksX1_init_0 0 rfl rfl)
theorem dX1_init_1 : decode cX1_init 1 = .ok (.invokespecial 3, 3) := dk_183 0 3 (dk_at dksX1_init_0 1 rfl rfl)
theorem dX1_init_4 : decode cX1_init 4 = .ok (.aload_n 0, 1) := dk_42 (dk_at dksX1_init_0 4 rfl rfl)
theorem dX1_init_5 : decode cX1_init 5 = .ok (.iconst 5, 1) := dk_8 (dk_at dksX1_init_0 5 rfl rfl)
theorem dX1_init_6 : decode cX1_init 6 = .ok (.putfield 9, 3) := dk_181 0 9 (dk_at dksX1_init_0 6 rfl rfl)
theorem dX1_init_9 : decode cX1_init 9 = .ok (.aload_n 0, 1) := dk_42 (dk_at dksX1_init_0 9 rfl rfl)
theorem dX1_init_10 : decode cX1_init 10 = .ok (.new 15, 3) := dk_187 0 15 (dk_at dksX1_init_0 10 rfl rfl)
theorem dX1_init_13 : decode cX1_init 13 = .ok (.dup, 1) := dk_89 (dk_at dksX1_init_0 13 rfl rfl)
theorem dX1_init_14 : decode cX1_init 14 = .ok (.iconst 4, 1) := dk_7 (dk_at dksX1_init_0 14 rfl rfl)
theorem dX1_init_15 : decode cX1_init 15 = .ok (.invokespecial 17, 3) := dk_183 0 17 (dk_at dksX1_init_0 15 rfl rfl)
theorem dX1_init_18 : decode cX1_init 18 = .ok (.putfield 20, 3) := dk_181 0 20 (dk_at dksX1_init_0 18 rfl rfl)
theorem dX1_init_21 : decode cX1_init 21 = .ok (.aload_n 0, 1) := dk_42 (dk_at dksX1_init_0 21 rfl rfl)
theorem dX1_init_22 : decode cX1_init 22 = .ok (.new 15, 3) := dk_187 0 15 (dk_at dksX1_init_1 0 rfl rfl)
theorem dX1_init_25 : decode cX1_init 25 = .ok (.dup, 1) := dk_89 (dk_at dksX1_init_1 3 rfl rfl)
theorem dX1_init_26 : decode cX1_init 26 = .ok (.iconst 4, 1) := dk_7 (dk_at dksX1_init_1 4 rfl rfl)
theorem dX1_init_27 : decode cX1_init 27 = .ok (.invokespecial 17, 3) := dk_183 0 17 (dk_at dksX1_init_1 5 rfl rfl)
theorem dX1_init_30 : decode cX1_init 30 = .ok (.putfield 24, 3) := dk_181 0 24 (dk_at dksX1_init_1 8 rfl rfl)
theorem dX1_init_33 : decode cX1_init 33 = .ok (.aload_n 0, 1) := dk_42 (dk_at dksX1_init_1 11 rfl rfl)
theorem dX1_init_34 : decode cX1_init 34 = .ok (.new 15, 3) := dk_187 0 15 (dk_at dksX1_init_1 12 rfl rfl)
theorem dX1_init_37 : decode cX1_init 37 = .ok (.dup, 1) := dk_89 (dk_at dksX1_init_1 15 rfl rfl)
theorem dX1_init_38 : decode cX1_init 38 = .ok (.iconst 2, 1) := dk_5 (dk_at dksX1_init_1 16 rfl rfl)
theorem dX1_init_39 : decode cX1_init 39 = .ok (.invokespecial 17, 3) := dk_183 0 17 (dk_at dksX1_init_1 17 rfl rfl)
theorem dX1_init_42 : decode cX1_init 42 = .ok (.putfield 27, 3) := dk_181 0 27 (dk_at dksX1_init_1 20 rfl rfl)
theorem dX1_init_45 : decode cX1_init 45 = .ok (.return_, 1) := dk_177 (dk_at dksX1_init_1 23 rfl rfl)
abbrev cX1_isNamed : ByteArray := prog_9_method_2_code
def yX1_isNamed : MethodName := ⟨RX1, "isNamed", "(Ljava/lang/String;)Z"⟩
def dkwX1_isNamed_1 : List UInt8 := [42, 180, 0, 27, 43, 184, 0, 30, 2, 159, 0, 7, 4, 167, 0, 4, 3, 172]
abbrev dktX1_isNamed_1 : List UInt8 := dkwX1_isNamed_1 ++ []
def dkwX1_isNamed_0 : List UInt8 := [42, 180, 0, 20, 43, 184, 0, 30, 2, 160, 0, 27, 42, 180, 0, 24, 43, 184, 0, 30, 2, 160, 0, 15]
abbrev dktX1_isNamed_0 : List UInt8 := dkwX1_isNamed_0 ++ dktX1_isNamed_1
theorem dksX1_isNamed_0 : cX1_isNamed.data.toList.drop 0 = dktX1_isNamed_0 := by decide +kernel
theorem dksX1_isNamed_1 : cX1_isNamed.data.toList.drop 24 = dktX1_isNamed_1 := dk_seg dksX1_isNamed_0 24 rfl rfl
theorem dX1_isNamed_0 : decode cX1_isNamed 0 = .ok (.aload_n 0, 1) := dk_42 (dk_at dksX1_isNamed_0 0 rfl rfl)
theorem dX1_isNamed_1 : decode cX1_isNamed 1 = .ok (.getfield 20, 3) := dk_180 0 20 (dk_at dksX1_isNamed_0 1 rfl rfl)
theorem dX1_isNamed_4 : decode cX1_isNamed 4 = .ok (.aload_n 1, 1) := dk_43 (dk_at dksX1_isNamed_0 4 rfl rfl)
theorem dX1_isNamed_5 : decode cX1_isNamed 5 = .ok (.invokestatic 30, 3) := dk_184 0 30 (dk_at dksX1_isNamed_0 5 rfl rfl)
theorem dX1_isNamed_8 : decode cX1_isNamed 8 = .ok (.iconst (-1), 1) := dk_2 (dk_at dksX1_isNamed_0 8 rfl rfl)
theorem dX1_isNamed_9 : decode cX1_isNamed 9 = .ok (.if_icmp .ne 27, 3) := dk_160 0 27 (dk_at dksX1_isNamed_0 9 rfl rfl)
theorem dX1_isNamed_12 : decode cX1_isNamed 12 = .ok (.aload_n 0, 1) := dk_42 (dk_at dksX1_isNamed_0 12 rfl rfl)
theorem dX1_isNamed_13 : decode cX1_isNamed 13 = .ok (.getfield 24, 3) := dk_180 0 24 (dk_at dksX1_isNamed_0 13 rfl rfl)
theorem dX1_isNamed_16 : decode cX1_isNamed 16 = .ok (.aload_n 1, 1) := dk_43 (dk_at dksX1_isNamed_0 16 rfl rfl)
theorem dX1_isNamed_17 : decode cX1_isNamed 17 = .ok (.invokestatic 30, 3) := dk_184 0 30 (dk_at dksX1_isNamed_0 17 rfl rfl)
theorem dX1_isNamed_20 : decode cX1_isNamed 20 = .ok (.iconst (-1), 1) := dk_2 (dk_at dksX1_isNamed_0 20 rfl rfl)
theorem dX1_isNamed_21 : decode cX1_isNamed 21 = .ok (.if_icmp .ne 15, 3) := dk_160 0 15 (dk_at dksX1_isNamed_0 21 rfl rfl)
theorem dX1_isNamed_24 : decode cX1_isNamed 24 = .ok (.aload_n 0, 1) := dk_42 (dk_at dksX1_isNamed_1 0 rfl rfl)
theorem dX1_isNamed_25 : decode cX1_isNamed 25 = .ok (.getfield 27, 3) := dk_180 0 27 (dk_at dksX1_isNamed_1 1 rfl rfl)
theorem dX1_isNamed_28 : decode cX1_isNamed 28 = .ok (.aload_n 1, 1) := dk_43 (dk_at dksX1_isNamed_1 4 rfl rfl)
theorem dX1_isNamed_29 : decode cX1_isNamed 29 = .ok (.invokestatic 30, 3) := dk_184 0 30 (dk_at dksX1_isNamed_1 5 rfl rfl)
theorem dX1_isNamed_32 : decode cX1_isNamed 32 = .ok (.iconst (-1), 1) := dk_2 (dk_at dksX1_isNamed_1 8 rfl rfl)
theorem dX1_isNamed_33 : decode cX1_isNamed 33 = .ok (.if_icmp .eq 7, 3) := dk_159 0 7 (dk_at dksX1_isNamed_1 9 rfl rfl)
theorem dX1_isNamed_36 : decode cX1_isNamed 36 = .ok (.iconst 1, 1) := dk_4 (dk_at dksX1_isNamed_1 12 rfl rfl)
theorem dX1_isNamed_37 : decode cX1_isNamed 37 = .ok (.goto 4, 3) := dk_167 0 4 (dk_at dksX1_isNamed_1 13 rfl rfl)
theorem dX1_isNamed_40 : decode cX1_isNamed 40 = .ok (.iconst 0, 1) := dk_3 (dk_at dksX1_isNamed_1 16 rfl rfl)
theorem dX1_isNamed_41 : decode cX1_isNamed 41 = .ok (.ireturn, 1) := dk_172 (dk_at dksX1_isNamed_1 17 rfl rfl)
theorem q168 : (Jvm.Cond.initialized "FourOnOne$House") ∈ lw_all := lw_g (lw_at lw_m1 2 rfl) rfl
theorem q216 : (Jvm.Cond.instantiable "FourOnOne$House" (12 : Nat)) ∈ lw_all := lw_g (lw_at lw_m1 50 rfl) rfl
theorem q218 : (Jvm.Cond.instanceMethod ({ cls := "FourOnOne$House", name := "<init>", desc := "()V" } : Jvm.MethodName)) ∈ lw_all := lw_g (lw_at lw_m1 52 rfl) rfl
theorem q219 : (Jvm.Cond.code ({ cls := "FourOnOne$House", name := "<init>", desc := "()V" } : Jvm.MethodName) prog_9_method_1_code (1 : Nat) (Option.none : Option Jvm.ClassFile.FieldType)) ∈ lw_all := lw_g (lw_at lw_m1 53 rfl) rfl
theorem q220 : (Jvm.Cond.methodLink "FourOnOne$House" (3 : Nat) ({ cls := "java/lang/Object", name := "<init>", desc := "()V" } : Jvm.MethodName)) ∈ lw_all := lw_g (lw_at lw_m1 54 rfl) rfl
theorem q221 : (Jvm.Cond.classLink "FourOnOne$House" (15 : Nat) "java/util/ArrayList") ∈ lw_all := lw_g (lw_at lw_m1 55 rfl) rfl
theorem q223 : (Jvm.Cond.methodLink "FourOnOne$House" (17 : Nat) ({ cls := "java/util/ArrayList", name := "<init>", desc := "(I)V" } : Jvm.MethodName)) ∈ lw_all := lw_g (lw_at lw_m1 57 rfl) rfl
theorem q253 : (Jvm.Cond.fieldLink "FourOnOne$House" (9 : Nat) "FourOnOne$House" "screens" "I") ∈ lw_all := lw_g (lw_at lw_m1 87 rfl) rfl
theorem q263 : (Jvm.Cond.fieldLink "FourOnOne$House" (20 : Nat) "FourOnOne$House" "kinds" "Ljava/util/List;") ∈ lw_all := lw_g (lw_at lw_m1 97 rfl) rfl
theorem q266 : (Jvm.Cond.fieldLink "FourOnOne$House" (24 : Nat) "FourOnOne$House" "films" "Ljava/util/List;") ∈ lw_all := lw_g (lw_at lw_m1 100 rfl) rfl
theorem q269 : (Jvm.Cond.fieldLink "FourOnOne$House" (27 : Nat) "FourOnOne$House" "people" "Ljava/util/List;") ∈ lw_all := lw_g (lw_at lw_m1 103 rfl) rfl
theorem q278 : (Jvm.Cond.lays "FourOnOne$House" "FourOnOne$House" "statements" "I") ∈ lw_all := lw_g (lw_at lw_m1 112 rfl) rfl
theorem q279 : (Jvm.Cond.soleField "FourOnOne$House" "statements") ∈ lw_all := lw_g (lw_at lw_m1 113 rfl) rfl
theorem q280 : (Jvm.Cond.lays "FourOnOne$House" "FourOnOne$House" "presses" "I") ∈ lw_all := lw_g (lw_at lw_m1 114 rfl) rfl
theorem q281 : (Jvm.Cond.soleField "FourOnOne$House" "presses") ∈ lw_all := lw_g (lw_at lw_m1 115 rfl) rfl
theorem q282 : (Jvm.Cond.lays "FourOnOne$House" "FourOnOne$House" "screens" "I") ∈ lw_all := lw_g (lw_at lw_m1 116 rfl) rfl
theorem q283 : (Jvm.Cond.soleField "FourOnOne$House" "screens") ∈ lw_all := lw_g (lw_at lw_m1 117 rfl) rfl
theorem q284 : (Jvm.Cond.lays "FourOnOne$House" "FourOnOne$House" "price" "I") ∈ lw_all := lw_g (lw_at lw_m1 118 rfl) rfl
theorem q285 : (Jvm.Cond.soleField "FourOnOne$House" "price") ∈ lw_all := lw_g (lw_at lw_m1 119 rfl) rfl
theorem q286 : (Jvm.Cond.lays "FourOnOne$House" "FourOnOne$House" "bother" "I") ∈ lw_all := lw_g (lw_at lw_m1 120 rfl) rfl
theorem q287 : (Jvm.Cond.soleField "FourOnOne$House" "bother") ∈ lw_all := lw_g (lw_at lw_m1 121 rfl) rfl
theorem q288 : (Jvm.Cond.lays "FourOnOne$House" "FourOnOne$House" "strange" "I") ∈ lw_all := lw_g (lw_at lw_m1 122 rfl) rfl
theorem q289 : (Jvm.Cond.soleField "FourOnOne$House" "strange") ∈ lw_all := lw_g (lw_at lw_m1 123 rfl) rfl
theorem q290 : (Jvm.Cond.laysFinal "FourOnOne$House" "FourOnOne$House" "kinds" "Ljava/util/List;") ∈ lw_all := lw_g (lw_at lw_m1 124 rfl) rfl
theorem q291 : (Jvm.Cond.soleField "FourOnOne$House" "kinds") ∈ lw_all := lw_g (lw_at lw_m1 125 rfl) rfl
theorem q292 : (Jvm.Cond.laysFinal "FourOnOne$House" "FourOnOne$House" "films" "Ljava/util/List;") ∈ lw_all := lw_g (lw_at lw_m1 126 rfl) rfl
theorem q293 : (Jvm.Cond.soleField "FourOnOne$House" "films") ∈ lw_all := lw_g (lw_at lw_m1 127 rfl) rfl
theorem q294 : (Jvm.Cond.laysFinal "FourOnOne$House" "FourOnOne$House" "people" "Ljava/util/List;") ∈ lw_all := lw_g (lw_at lw_m1 128 rfl) rfl
theorem q295 : (Jvm.Cond.soleField "FourOnOne$House" "people") ∈ lw_all := lw_g (lw_at lw_m1 129 rfl) rfl
theorem q296 : (Jvm.Cond.lays "FourOnOne$House" "FourOnOne$House" "learns" "LFourOnOne$Value;") ∈ lw_all := lw_g (lw_at lw_m1 130 rfl) rfl
theorem q297 : (Jvm.Cond.soleField "FourOnOne$House" "learns") ∈ lw_all := lw_g (lw_at lw_m1 131 rfl) rfl
theorem q298 : (Jvm.Cond.lays "FourOnOne$House" "FourOnOne$House" "fades" "LFourOnOne$Value;") ∈ lw_all := lw_g (lw_at lw_m1 132 rfl) rfl
theorem q299 : (Jvm.Cond.soleField "FourOnOne$House" "fades") ∈ lw_all := lw_g (lw_at lw_m1 133 rfl) rfl
theorem q300 : (Jvm.Cond.lays "FourOnOne$House" "FourOnOne$House" "may" "LFourOnOne$Test;") ∈ lw_all := lw_g (lw_at lw_m1 134 rfl) rfl
theorem q301 : (Jvm.Cond.soleField "FourOnOne$House" "may") ∈ lw_all := lw_g (lw_at lw_m1 135 rfl) rfl
theorem q302 : (Jvm.Cond.superclass "FourOnOne$House" "java/lang/Object") ∈ lw_all := lw_g (lw_at lw_m1 136 rfl) rfl
theorem q791 : (Jvm.Cond.instanceMethod ({ cls := "FourOnOne$House", name := "isNamed", desc := "(Ljava/lang/String;)Z" } : Jvm.MethodName)) ∈ lw_all := lw_g (lw_at lw_m3 145 rfl) rfl
theorem q792 : (Jvm.Cond.selects "FourOnOne$House" ({ cls := "FourOnOne$House", name := "isNamed", desc := "(Ljava/lang/String;)Z" } : Jvm.MethodName) ({ cls := "FourOnOne$House", name := "isNamed", desc := "(Ljava/lang/String;)Z" } : Jvm.MethodName)) ∈ lw_all := lw_g (lw_at lw_m3 146 rfl) rfl
theorem q793 : (Jvm.Cond.code ({ cls := "FourOnOne$House", name := "isNamed", desc := "(Ljava/lang/String;)Z" } : Jvm.MethodName) prog_9_method_2_code (2 : Nat) (Option.some Jvm.ClassFile.FieldType.boolean)) ∈ lw_all := lw_g (lw_at lw_m3 147 rfl) rfl
theorem q794 : (Jvm.Cond.methodLink "FourOnOne$House" (30 : Nat) ({ cls := "FourOnOne$Named", name := "find", desc := "(Ljava/util/List;Ljava/lang/String;)I" } : Jvm.MethodName)) ∈ lw_all := lw_g (lw_at lw_m3 148 rfl) rfl
theorem q875 : (Jvm.Cond.selects "FourOnOne$House" ({ cls := "java/lang/Object", name := "getClass", desc := "()Ljava/lang/Class;" } : Jvm.MethodName) ({ cls := "java/lang/Object", name := "getClass", desc := "()Ljava/lang/Class;" } : Jvm.MethodName)) ∈ lw_all := lw_g (lw_at lw_m3 229 rfl) rfl
theorem q2649 : (Jvm.Cond.castable "FourOnOne$House" "java/lang/Object") ∈ lw_tbl := lw_at lw_m11 83 rfl
theorem in_X1 : ∀ w ∈ wsX10, w ∈ lw_all := lw_in wsX10 [278, 280, 282, 284, 286, 288, 290, 292, 294, 296, 298, 300] (by decide +kernel) (by decide +kernel)

/-! FourOnOne$Fault -/
set_option maxRecDepth 100000
def RX3 : String := "FourOnOne$Fault"
def TX3 : u_T := fun k => match k with
  | 0 => ("java/lang/Throwable", "cause", "Ljava/lang/Throwable;", false)
  | 1 => ("java/lang/Throwable", "stackTrace", "[Ljava/lang/StackTraceElement;", false)
  | 2 => ("java/lang/Throwable", "suppressedExceptions", "Ljava/util/List;", false)
  | 3 => ("java/lang/Throwable", "detailMessage", "Ljava/lang/String;", false)
  | 4 => ("java/lang/Throwable", "backtrace", "Ljava/lang/Object;", false)
  | 5 => ("java/lang/Throwable", "depth", "I", false)
  | 6 => ("FourOnOne$Fault", "kind", "I", false)
  | _ => ("FourOnOne$Fault", "place", "I", false)
def tyX3 : Nat → FieldType := fun k => match k with
  | 0 => .object "java/lang/Throwable"
  | 1 => .array (.object "java/lang/StackTraceElement")
  | 2 => .object "java/util/List"
  | 3 => .object "java/lang/String"
  | 4 => .object "java/lang/Object"
  | 5 => .int
  | 6 => .int
  | _ => .int
abbrev wsX30 : List Cond := u_ws RX3 TX3 8
theorem nmX3 : ∀ a, a < 8 → ∀ b, b < 8 → a ≠ b → (TX3 a).2.1 ≠ (TX3 b).2.1 := by decide +kernel
theorem tyX3_ok : ∀ k, k < 8 → parseFieldDescriptor (TX3 k).2.2.1 = some (tyX3 k) := by decide +kernel
abbrev cX3_init : ByteArray := prog_6_method_1_code
def yX3_init : MethodName := ⟨RX3, "<init>", "()V"⟩
def dkwX3_init_0 : List UInt8 := [42, 1, 1, 3, 3, 183, 0, 1, 177]
abbrev dktX3_init_0 : List UInt8 := dkwX3_init_0 ++ []
theorem dksX3_init_0 : cX3_init.data.toList.drop 0 = dktX3_init_0 := by decide +kernel
theorem dX3_init_0 : decode cX3_init 0 = .ok (.aload_n 0, 1) := dk_42 (dk_at dksX3_init_0 0 rfl rfl)
theorem dX3_init_1 : decode cX3_init 1 = .ok (.aconst_null, 1) := dk_1 (dk_at dksX3_init_0 1 rfl rfl)
theorem dX3_init_2 : decode cX3_init 2 = .ok (.aconst_null, 1) := dk_1 (dk_at dksX3_init_0 2 rfl rfl)
theorem dX3_init_3 : decode cX3_init 3 = .ok (.iconst 0, 1) := dk_3 (dk_at dksX3_init_0 3 rfl rfl)
theorem dX3_init_4 : decode cX3_init 4 = .ok (.iconst 0, 1) := dk_3 (dk_at dksX3_init_0 4 rfl rfl)
theorem dX3_init_5 : decode cX3_init 5 = .ok (.invokespecial 1, 3) := dk_183 0 1 (dk_at dksX3_init_0 5 rfl rfl)
theorem dX3_init_8 : decode cX3_init 8 = .ok (.return_, 1) := dk_177 (dk_at dksX3_init_0 8 rfl rfl)
theorem q176 : (Jvm.Cond.initialized "FourOnOne$Fault") ∈ lw_all := lw_g (lw_at lw_m1 10 rfl) rfl
theorem q310 : (Jvm.Cond.instantiable "FourOnOne$Fault" (8 : Nat)) ∈ lw_all := lw_g (lw_at lw_m1 144 rfl) rfl
theorem q311 : (Jvm.Cond.castable "FourOnOne$Fault" "FourOnOne$Fault") ∈ lw_tbl := lw_at lw_m1 145 rfl
theorem q318 : (Jvm.Cond.selects "FourOnOne$Fault" ({ cls := "java/lang/Throwable", name := "fillInStackTrace", desc := "(I)Ljava/lang/Throwable;" } : Jvm.MethodName) ({ cls := "java/lang/Throwable", name := "fillInStackTrace", desc := "(I)Ljava/lang/Throwable;" } : Jvm.MethodName)) ∈ lw_all := lw_g (lw_at lw_m1 152 rfl) rfl
theorem q319 : (Jvm.Cond.selects "FourOnOne$Fault" ({ cls := "java/lang/Throwable", name := "fillInStackTrace", desc := "()Ljava/lang/Throwable;" } : Jvm.MethodName) ({ cls := "java/lang/Throwable", name := "fillInStackTrace", desc := "()Ljava/lang/Throwable;" } : Jvm.MethodName)) ∈ lw_all := lw_g (lw_at lw_m1 153 rfl) rfl
theorem q320 : (Jvm.Cond.lays "FourOnOne$Fault" "java/lang/Throwable" "cause" "Ljava/lang/Throwable;") ∈ lw_all := lw_g (lw_at lw_m1 154 rfl) rfl
theorem q322 : (Jvm.Cond.lays "FourOnOne$Fault" "java/lang/Throwable" "stackTrace" "[Ljava/lang/StackTraceElement;") ∈ lw_all := lw_g (lw_at lw_m1 156 rfl) rfl
theorem q324 : (Jvm.Cond.lays "FourOnOne$Fault" "java/lang/Throwable" "suppressedExceptions" "Ljava/util/List;") ∈ lw_all := lw_g (lw_at lw_m1 158 rfl) rfl
theorem q326 : (Jvm.Cond.lays "FourOnOne$Fault" "java/lang/Throwable" "detailMessage" "Ljava/lang/String;") ∈ lw_all := lw_g (lw_at lw_m1 160 rfl) rfl
theorem q328 : (Jvm.Cond.lays "FourOnOne$Fault" "java/lang/Throwable" "backtrace" "Ljava/lang/Object;") ∈ lw_all := lw_g (lw_at lw_m1 162 rfl) rfl
theorem q349 : (Jvm.Cond.instanceMethod ({ cls := "FourOnOne$Fault", name := "<init>", desc := "()V" } : Jvm.MethodName)) ∈ lw_all := lw_g (lw_at lw_m1 183 rfl) rfl
theorem q350 : (Jvm.Cond.code ({ cls := "FourOnOne$Fault", name := "<init>", desc := "()V" } : Jvm.MethodName) prog_6_method_1_code (1 : Nat) (Option.none : Option Jvm.ClassFile.FieldType)) ∈ lw_all := lw_g (lw_at lw_m1 184 rfl) rfl
theorem q351 : (Jvm.Cond.methodLink "FourOnOne$Fault" (1 : Nat) ({ cls := "java/lang/RuntimeException", name := "<init>", desc := "(Ljava/lang/String;Ljava/lang/Throwable;ZZ)V" } : Jvm.MethodName)) ∈ lw_all := lw_g (lw_at lw_m1 185 rfl) rfl
theorem q369 : (Jvm.Cond.lays "FourOnOne$Fault" "FourOnOne$Fault" "kind" "I") ∈ lw_all := lw_g (lw_at lw_m1 203 rfl) rfl
theorem q370 : (Jvm.Cond.soleField "FourOnOne$Fault" "kind") ∈ lw_all := lw_g (lw_at lw_m1 204 rfl) rfl
theorem q371 : (Jvm.Cond.lays "FourOnOne$Fault" "FourOnOne$Fault" "place" "I") ∈ lw_all := lw_g (lw_at lw_m1 205 rfl) rfl
theorem q372 : (Jvm.Cond.soleField "FourOnOne$Fault" "place") ∈ lw_all := lw_g (lw_at lw_m1 206 rfl) rfl
theorem q377 : (Jvm.Cond.lays "FourOnOne$Fault" "java/lang/Throwable" "depth" "I") ∈ lw_all := lw_g (lw_at lw_m1 211 rfl) rfl
theorem q380 : (Jvm.Cond.superclass "FourOnOne$Fault" "java/lang/RuntimeException") ∈ lw_all := lw_g (lw_at lw_m1 214 rfl) rfl
theorem q872 : (Jvm.Cond.selects "FourOnOne$Fault" ({ cls := "java/lang/Object", name := "getClass", desc := "()Ljava/lang/Class;" } : Jvm.MethodName) ({ cls := "java/lang/Object", name := "getClass", desc := "()Ljava/lang/Class;" } : Jvm.MethodName)) ∈ lw_all := lw_g (lw_at lw_m3 226 rfl) rfl
theorem q2652 : (Jvm.Cond.castable "FourOnOne$Fault" "java/lang/Object") ∈ lw_tbl := lw_at lw_m11 86 rfl
theorem in_X3 : ∀ w ∈ wsX30, w ∈ lw_all := lw_in wsX30 [320, 322, 324, 326, 328, 377, 369, 371] (by decide +kernel) (by decide +kernel)

/-! FourOnOne$Moment -/
set_option maxRecDepth 100000
def RX4 : String := "FourOnOne$Moment"
def TX4 : u_T := fun k => match k with
  | _ => ("FourOnOne$Moment", "of", "[J", true)
def tyX4 : Nat → FieldType := fun k => match k with
  | _ => .array .long
abbrev wsX40 : List Cond := u_ws RX4 TX4 1
theorem nmX4 : ∀ a, a < 1 → ∀ b, b < 1 → a ≠ b → (TX4 a).2.1 ≠ (TX4 b).2.1 := by decide +kernel
theorem tyX4_ok : ∀ k, k < 1 → parseFieldDescriptor (TX4 k).2.2.1 = some (tyX4 k) := by decide +kernel
abbrev cX4_init : ByteArray := prog_11_method_1_code
def yX4_init : MethodName := ⟨RX4, "<init>", "()V"⟩
def dkwX4_init_0 : List UInt8 := [42, 183, 0, 1, 42, 16, 8, 188, 11, 181, 0, 7, 177]
abbrev dktX4_init_0 : List UInt8 := dkwX4_init_0 ++ []
theorem dksX4_init_0 : cX4_init.data.toList.drop 0 = dktX4_init_0 := by decide +kernel
theorem dX4_init_0 : decode cX4_init 0 = .ok (.aload_n 0, 1) := dk_42 (dk_at dksX4_init_0 0 rfl rfl)
theorem dX4_init_1 : decode cX4_init 1 = .ok (.invokespecial 1, 3) := dk_183 0 1 (dk_at dksX4_init_0 1 rfl rfl)
theorem dX4_init_4 : decode cX4_init 4 = .ok (.aload_n 0, 1) := dk_42 (dk_at dksX4_init_0 4 rfl rfl)
theorem dX4_init_5 : decode cX4_init 5 = .ok (.bipush 8, 2) := dk_16 8 (dk_at dksX4_init_0 5 rfl rfl)
theorem dX4_init_7 : decode cX4_init 7 = .ok (.newarray .long, 2) := dk_188_11 (dk_at dksX4_init_0 7 rfl rfl)
theorem dX4_init_9 : decode cX4_init 9 = .ok (.putfield 7, 3) := dk_181 0 7 (dk_at dksX4_init_0 9 rfl rfl)
theorem dX4_init_12 : decode cX4_init 12 = .ok (.return_, 1) := dk_177 (dk_at dksX4_init_0 12 rfl rfl)
theorem q177 : (Jvm.Cond.initialized "FourOnOne$Moment") ∈ lw_all := lw_g (lw_at lw_m1 11 rfl) rfl
theorem q408 : (Jvm.Cond.instantiable "FourOnOne$Moment" (1 : Nat)) ∈ lw_all := lw_g (lw_at lw_m2 2 rfl) rfl
theorem q410 : (Jvm.Cond.instanceMethod ({ cls := "FourOnOne$Moment", name := "<init>", desc := "()V" } : Jvm.MethodName)) ∈ lw_all := lw_g (lw_at lw_m2 4 rfl) rfl
theorem q411 : (Jvm.Cond.code ({ cls := "FourOnOne$Moment", name := "<init>", desc := "()V" } : Jvm.MethodName) prog_11_method_1_code (1 : Nat) (Option.none : Option Jvm.ClassFile.FieldType)) ∈ lw_all := lw_g (lw_at lw_m2 5 rfl) rfl
theorem q412 : (Jvm.Cond.methodLink "FourOnOne$Moment" (1 : Nat) ({ cls := "java/lang/Object", name := "<init>", desc := "()V" } : Jvm.MethodName)) ∈ lw_all := lw_g (lw_at lw_m2 6 rfl) rfl
theorem q413 : (Jvm.Cond.fieldLink "FourOnOne$Moment" (7 : Nat) "FourOnOne$Moment" "of" "[J") ∈ lw_all := lw_g (lw_at lw_m2 7 rfl) rfl
theorem q417 : (Jvm.Cond.laysFinal "FourOnOne$Moment" "FourOnOne$Moment" "of" "[J") ∈ lw_all := lw_g (lw_at lw_m2 11 rfl) rfl
theorem q418 : (Jvm.Cond.soleField "FourOnOne$Moment" "of") ∈ lw_all := lw_g (lw_at lw_m2 12 rfl) rfl
theorem q419 : (Jvm.Cond.superclass "FourOnOne$Moment" "java/lang/Object") ∈ lw_all := lw_g (lw_at lw_m2 13 rfl) rfl
theorem q877 : (Jvm.Cond.selects "FourOnOne$Moment" ({ cls := "java/lang/Object", name := "getClass", desc := "()Ljava/lang/Class;" } : Jvm.MethodName) ({ cls := "java/lang/Object", name := "getClass", desc := "()Ljava/lang/Class;" } : Jvm.MethodName)) ∈ lw_all := lw_g (lw_at lw_m3 231 rfl) rfl
theorem q2653 : (Jvm.Cond.castable "FourOnOne$Moment" "java/lang/Object") ∈ lw_tbl := lw_at lw_m11 87 rfl
theorem in_X4 : ∀ w ∈ wsX40, w ∈ lw_all := lw_in wsX40 [417] (by decide +kernel) (by decide +kernel)

/-! FourOnOne$Named -/
set_option maxRecDepth 100000
def RX7 : String := "FourOnOne$Named"
def TX7 : u_T := fun k => match k with
  | _ => ("FourOnOne$Named", "name", "Ljava/lang/String;", true)
def tyX7 : Nat → FieldType := fun k => match k with
  | _ => .object "java/lang/String"
abbrev wsX70 : List Cond := u_ws RX7 TX7 1
theorem nmX7 : ∀ a, a < 1 → ∀ b, b < 1 → a ≠ b → (TX7 a).2.1 ≠ (TX7 b).2.1 := by decide +kernel
theorem tyX7_ok : ∀ k, k < 1 → parseFieldDescriptor (TX7 k).2.2.1 = some (tyX7 k) := by decide +kernel
abbrev cX7_find : ByteArray := prog_12_method_2_code
def yX7_find : MethodName := ⟨RX7, "find", "(Ljava/util/List;Ljava/lang/String;)I"⟩
def dkwX7_find_1 : List UInt8 := [180, 0, 9, 43, 182, 0, 25, 153, 0, 5, 28, 172, 132, 2, 1, 167, 255, 221, 2, 172]
abbrev dktX7_find_1 : List UInt8 := dkwX7_find_1 ++ []
def dkwX7_find_0 : List UInt8 := [3, 61, 28, 42, 185, 0, 15, 1, 0, 162, 0, 31, 42, 28, 185, 0, 21, 2, 0, 192, 0, 10]
abbrev dktX7_find_0 : List UInt8 := dkwX7_find_0 ++ dktX7_find_1
theorem dksX7_find_0 : cX7_find.data.toList.drop 0 = dktX7_find_0 := by decide +kernel
theorem dksX7_find_1 : cX7_find.data.toList.drop 22 = dktX7_find_1 := dk_seg dksX7_find_0 22 rfl rfl
theorem dX7_find_0 : decode cX7_find 0 = .ok (.iconst 0, 1) := dk_3 (dk_at dksX7_find_0 0 rfl rfl)
theorem dX7_find_1 : decode cX7_find 1 = .ok (.istore_n 2, 1) := dk_61 (dk_at dksX7_find_0 1 rfl rfl)
theorem dX7_find_2 : decode cX7_find 2 = .ok (.iload_n 2, 1) := dk_28 (dk_at dksX7_find_0 2 rfl rfl)
theorem dX7_find_3 : decode cX7_find 3 = .ok (.aload_n 0, 1) := dk_42 (dk_at dksX7_find_0 3 rfl rfl)
theorem dX7_find_4 : decode cX7_find 4 = .ok (.invokeinterface 15 1, 5) := by decide +kernel
theorem dX7_find_9 : decode cX7_find 9 = .ok (.if_icmp .ge 31, 3) := dk_162 0 31 (dk_at dksX7_find_0 9 rfl rfl)
theorem dX7_find_12 : decode cX7_find 12 = .ok (.aload_n 0, 1) := dk_42 (dk_at dksX7_find_0 12 rfl rfl)
theorem dX7_find_13 : decode cX7_find 13 = .ok (.iload_n 2, 1) := dk_28 (dk_at dksX7_find_0 13 rfl rfl)
theorem dX7_find_14 : decode cX7_find 14 = .ok (.invokeinterface 21 2, 5) := by decide +kernel
theorem dX7_find_19 : decode cX7_find 19 = .ok (.checkcast 10, 3) := dk_192 0 10 (dk_at dksX7_find_0 19 rfl rfl)
theorem dX7_find_22 : decode cX7_find 22 = .ok (.getfield 9, 3) := dk_180 0 9 (dk_at dksX7_find_1 0 rfl rfl)
theorem dX7_find_25 : decode cX7_find 25 = .ok (.aload_n 1, 1) := dk_43 (dk_at dksX7_find_1 3 rfl rfl)
theorem dX7_find_26 : decode cX7_find 26 = .ok (.invokevirtual 25, 3) := dk_182 0 25 (dk_at dksX7_find_1 4 rfl rfl)
theorem dX7_find_29 : decode cX7_find 29 = .ok (.ifCond .eq 5, 3) := dk_153 0 5 (dk_at dksX7_find_1 7 rfl rfl)
theorem dX7_find_32 : decode cX7_find 32 = .ok (.iload_n 2, 1) := dk_28 (dk_at dksX7_find_1 10 rfl rfl)
theorem dX7_find_33 : decode cX7_find 33 = .ok (.ireturn, 1) := dk_172 (dk_at dksX7_find_1 11 rfl rfl)
theorem dX7_find_34 : decode cX7_find 34 = .ok (.iinc 2 1, 3) := dk_132 2 1 (dk_at dksX7_find_1 12 rfl rfl)
theorem dX7_find_37 : decode cX7_find 37 = .ok (.goto (-35), 3) := dk_167 255 221 (dk_at dksX7_find_1 15 rfl rfl)
theorem dX7_find_40 : decode cX7_find 40 = .ok (.iconst (-1), 1) := dk_2 (dk_at dksX7_find_1 18 rfl rfl)
theorem dX7_find_41 : decode cX7_find 41 = .ok (.ireturn, 1) := dk_172 (dk_at dksX7_find_1 19 rfl rfl)
abbrev cX7_init : ByteArray := prog_12_method_1_code
def yX7_init : MethodName := ⟨RX7, "<init>", "(Ljava/lang/String;)V"⟩
def dkwX7_init_0 : List UInt8 := [42, 183, 0, 3, 42, 43, 181, 0, 9, 177]
abbrev dktX7_init_0 : List UInt8 := dkwX7_init_0 ++ []
theorem dksX7_init_0 : cX7_init.data.toList.drop 0 = dktX7_init_0 := by decide +kernel
theorem dX7_init_0 : decode cX7_init 0 = .ok (.aload_n 0, 1) := dk_42 (dk_at dksX7_init_0 0 rfl rfl)
theorem dX7_init_1 : decode cX7_init 1 = .ok (.invokespecial 3, 3) := dk_183 0 3 (dk_at dksX7_init_0 1 rfl rfl)
theorem dX7_init_4 : decode cX7_init 4 = .ok (.aload_n 0, 1) := dk_42 (dk_at dksX7_init_0 4 rfl rfl)
theorem dX7_init_5 : decode cX7_init 5 = .ok (.aload_n 1, 1) := dk_43 (dk_at dksX7_init_0 5 rfl rfl)
theorem dX7_init_6 : decode cX7_init 6 = .ok (.putfield 9, 3) := dk_181 0 9 (dk_at dksX7_init_0 6 rfl rfl)
theorem dX7_init_9 : decode cX7_init 9 = .ok (.return_, 1) := dk_177 (dk_at dksX7_init_0 9 rfl rfl)
abbrev cX7_letter : ByteArray := prog_12_method_3_code
def yX7_letter : MethodName := ⟨RX7, "letter", "(I)I"⟩
def dkwX7_letter_1 : List UInt8 := [167, 0, 4, 3, 172]
abbrev dktX7_letter_1 : List UInt8 := dkwX7_letter_1 ++ []
def dkwX7_letter_0 : List UInt8 := [27, 42, 180, 0, 9, 182, 0, 31, 162, 0, 19, 42, 180, 0, 9, 27, 182, 0, 34, 16, 97, 100, 4, 96]
abbrev dktX7_letter_0 : List UInt8 := dkwX7_letter_0 ++ dktX7_letter_1
theorem dksX7_letter_0 : cX7_letter.data.toList.drop 0 = dktX7_letter_0 := by decide +kernel
theorem dksX7_letter_1 : cX7_letter.data.toList.drop 24 = dktX7_letter_1 := dk_seg dksX7_letter_0 24 rfl rfl
theorem dX7_letter_0 : decode cX7_letter 0 = .ok (.iload_n 1, 1) := dk_27 (dk_at dksX7_letter_0 0 rfl rfl)
theorem dX7_letter_1 : decode cX7_letter 1 = .ok (.aload_n 0, 1) := dk_42 (dk_at dksX7_letter_0 1 rfl rfl)
theorem dX7_letter_2 : decode cX7_letter 2 = .ok (.getfield 9, 3) := dk_180 0 9 (dk_at dksX7_letter_0 2 rfl rfl)
theorem dX7_letter_5 : decode cX7_letter 5 = .ok (.invokevirtual 31, 3) := dk_182 0 31 (dk_at dksX7_letter_0 5 rfl rfl)
theorem dX7_letter_8 : decode cX7_letter 8 = .ok (.if_icmp .ge 19, 3) := dk_162 0 19 (dk_at dksX7_letter_0 8 rfl rfl)
theorem dX7_letter_11 : decode cX7_letter 11 = .ok (.aload_n 0, 1) := dk_42 (dk_at dksX7_letter_0 11 rfl rfl)
theorem dX7_letter_12 : decode cX7_letter 12 = .ok (.getfield 9, 3) := dk_180 0 9 (dk_at dksX7_letter_0 12 rfl rfl)
theorem dX7_letter_15 : decode cX7_letter 15 = .ok (.iload_n 1, 1) := dk_27 (dk_at dksX7_letter_0 15 rfl rfl)
theorem dX7_letter_16 : decode cX7_letter 16 = .ok (.invokevirtual 34, 3) := dk_182 0 34 (dk_at dksX7_letter_0 16 rfl rfl)
theorem dX7_letter_19 : decode cX7_letter 19 = .ok (.bipush 97, 2) := dk_16 97 (dk_at dksX7_letter_0 19 rfl rfl)
theorem dX7_letter_21 : decode cX7_letter 21 = .ok (.isub, 1) := dk_100 (dk_at dksX7_letter_0 21 rfl rfl)
theorem dX7_letter_22 : decode cX7_letter 22 = .ok (.iconst 1, 1) := dk_4 (dk_at dksX7_letter_0 22 rfl rfl)
theorem dX7_letter_23 : decode cX7_letter 23 = .ok (.iadd, 1) := dk_96 (dk_at dksX7_letter_0 23 rfl rfl)
theorem dX7_letter_24 : decode cX7_letter 24 = .ok (.goto 4, 3) := dk_167 0 4 (dk_at dksX7_letter_1 0 rfl rfl)
theorem dX7_letter_27 : decode cX7_letter 27 = .ok (.iconst 0, 1) := dk_3 (dk_at dksX7_letter_1 3 rfl rfl)
theorem dX7_letter_28 : decode cX7_letter 28 = .ok (.ireturn, 1) := dk_172 (dk_at dksX7_letter_1 4 rfl rfl)
theorem q185 : (Jvm.Cond.initialized "FourOnOne$Named") ∈ lw_all := lw_g (lw_at lw_m1 19 rfl) rfl
theorem q767 : (Jvm.Cond.instantiable "FourOnOne$Named" (1 : Nat)) ∈ lw_all := lw_g (lw_at lw_m3 121 rfl) rfl
theorem q795 : (Jvm.Cond.static ({ cls := "FourOnOne$Named", name := "find", desc := "(Ljava/util/List;Ljava/lang/String;)I" } : Jvm.MethodName)) ∈ lw_all := lw_g (lw_at lw_m3 149 rfl) rfl
theorem q796 : (Jvm.Cond.code ({ cls := "FourOnOne$Named", name := "find", desc := "(Ljava/util/List;Ljava/lang/String;)I" } : Jvm.MethodName) prog_12_method_2_code (3 : Nat) (Option.some Jvm.ClassFile.FieldType.int)) ∈ lw_all := lw_g (lw_at lw_m3 150 rfl) rfl
theorem q797 : (Jvm.Cond.interfaceEntry "FourOnOne$Named" (15 : Nat)) ∈ lw_tbl := lw_at lw_m3 151 rfl
theorem q798 : (Jvm.Cond.methodLink "FourOnOne$Named" (15 : Nat) ({ cls := "java/util/List", name := "size", desc := "()I" } : Jvm.MethodName)) ∈ lw_all := lw_g (lw_at lw_m3 152 rfl) rfl
theorem q799 : (Jvm.Cond.interfaceEntry "FourOnOne$Named" (21 : Nat)) ∈ lw_tbl := lw_at lw_m3 153 rfl
theorem q800 : (Jvm.Cond.methodLink "FourOnOne$Named" (21 : Nat) ({ cls := "java/util/List", name := "get", desc := "(I)Ljava/lang/Object;" } : Jvm.MethodName)) ∈ lw_all := lw_g (lw_at lw_m3 154 rfl) rfl
theorem q818 : (Jvm.Cond.classLink "FourOnOne$Named" (10 : Nat) "FourOnOne$Named") ∈ lw_all := lw_g (lw_at lw_m3 172 rfl) rfl
theorem q819 : (Jvm.Cond.methodLink "FourOnOne$Named" (25 : Nat) ({ cls := "java/lang/String", name := "equals", desc := "(Ljava/lang/Object;)Z" } : Jvm.MethodName)) ∈ lw_all := lw_g (lw_at lw_m3 173 rfl) rfl
theorem q821 : (Jvm.Cond.instanceMethod ({ cls := "FourOnOne$Named", name := "<init>", desc := "(Ljava/lang/String;)V" } : Jvm.MethodName)) ∈ lw_all := lw_g (lw_at lw_m3 175 rfl) rfl
theorem q822 : (Jvm.Cond.code ({ cls := "FourOnOne$Named", name := "<init>", desc := "(Ljava/lang/String;)V" } : Jvm.MethodName) prog_12_method_1_code (2 : Nat) (Option.none : Option Jvm.ClassFile.FieldType)) ∈ lw_all := lw_g (lw_at lw_m3 176 rfl) rfl
theorem q823 : (Jvm.Cond.methodLink "FourOnOne$Named" (3 : Nat) ({ cls := "java/lang/Object", name := "<init>", desc := "()V" } : Jvm.MethodName)) ∈ lw_all := lw_g (lw_at lw_m3 177 rfl) rfl
theorem q824 : (Jvm.Cond.fieldLink "FourOnOne$Named" (9 : Nat) "FourOnOne$Named" "name" "Ljava/lang/String;") ∈ lw_all := lw_g (lw_at lw_m3 178 rfl) rfl
theorem q825 : (Jvm.Cond.laysFinal "FourOnOne$Named" "FourOnOne$Named" "name" "Ljava/lang/String;") ∈ lw_all := lw_g (lw_at lw_m3 179 rfl) rfl
theorem q826 : (Jvm.Cond.soleField "FourOnOne$Named" "name") ∈ lw_all := lw_g (lw_at lw_m3 180 rfl) rfl
theorem q827 : (Jvm.Cond.superclass "FourOnOne$Named" "java/lang/Object") ∈ lw_all := lw_g (lw_at lw_m3 181 rfl) rfl
theorem q878 : (Jvm.Cond.selects "FourOnOne$Named" ({ cls := "java/lang/Object", name := "getClass", desc := "()Ljava/lang/Class;" } : Jvm.MethodName) ({ cls := "java/lang/Object", name := "getClass", desc := "()Ljava/lang/Class;" } : Jvm.MethodName)) ∈ lw_all := lw_g (lw_at lw_m3 232 rfl) rfl
theorem q1301 : (Jvm.Cond.instanceMethod ({ cls := "FourOnOne$Named", name := "letter", desc := "(I)I" } : Jvm.MethodName)) ∈ lw_all := lw_g (lw_at lw_m5 175 rfl) rfl
theorem q1302 : (Jvm.Cond.selects "FourOnOne$Named" ({ cls := "FourOnOne$Named", name := "letter", desc := "(I)I" } : Jvm.MethodName) ({ cls := "FourOnOne$Named", name := "letter", desc := "(I)I" } : Jvm.MethodName)) ∈ lw_all := lw_g (lw_at lw_m5 176 rfl) rfl
theorem q1303 : (Jvm.Cond.sameMethod "FourOnOne$Named" "FourOnOne$Named" "letter" "(I)I") ∈ lw_all := lw_g (lw_at lw_m5 177 rfl) rfl
theorem q1306 : (Jvm.Cond.code ({ cls := "FourOnOne$Named", name := "letter", desc := "(I)I" } : Jvm.MethodName) prog_12_method_3_code (2 : Nat) (Option.some Jvm.ClassFile.FieldType.int)) ∈ lw_all := lw_g (lw_at lw_m5 180 rfl) rfl
theorem q1307 : (Jvm.Cond.methodLink "FourOnOne$Named" (31 : Nat) ({ cls := "java/lang/String", name := "length", desc := "()I" } : Jvm.MethodName)) ∈ lw_all := lw_g (lw_at lw_m5 181 rfl) rfl
theorem q1308 : (Jvm.Cond.methodLink "FourOnOne$Named" (34 : Nat) ({ cls := "java/lang/String", name := "charAt", desc := "(I)C" } : Jvm.MethodName)) ∈ lw_all := lw_g (lw_at lw_m5 182 rfl) rfl
theorem q2656 : (Jvm.Cond.castable "FourOnOne$Named" "java/lang/Object") ∈ lw_tbl := lw_at lw_m11 90 rfl
theorem in_X7 : ∀ w ∈ wsX70, w ∈ lw_all := lw_in wsX70 [825] (by decide +kernel) (by decide +kernel)

/-! FourOnOne$Film -/
set_option maxRecDepth 100000
def RX8 : String := "FourOnOne$Film"
def TX8 : u_T := fun k => match k with
  | 0 => ("FourOnOne$Named", "name", "Ljava/lang/String;", true)
  | 1 => ("FourOnOne$Film", "parts", "I", true)
  | _ => ("FourOnOne$Film", "is", "[I", true)
def tyX8 : Nat → FieldType := fun k => match k with
  | 0 => .object "java/lang/String"
  | 1 => .int
  | _ => .array .int
abbrev wsX80 : List Cond := u_ws RX8 TX8 3
theorem nmX8 : ∀ a, a < 3 → ∀ b, b < 3 → a ≠ b → (TX8 a).2.1 ≠ (TX8 b).2.1 := by decide +kernel
theorem tyX8_ok : ∀ k, k < 3 → parseFieldDescriptor (TX8 k).2.2.1 = some (tyX8 k) := by decide +kernel
abbrev cX8_init : ByteArray := prog_7_method_1_code
def yX8_init : MethodName := ⟨RX8, "<init>", "(Ljava/lang/String;I)V"⟩
def dkwX8_init_0 : List UInt8 := [42, 43, 183, 0, 3, 42, 16, 6, 188, 10, 181, 0, 9, 42, 28, 181, 0, 15, 177]
abbrev dktX8_init_0 : List UInt8 := dkwX8_init_0 ++ []
theorem dksX8_init_0 : cX8_init.data.toList.drop 0 = dktX8_init_0 := by decide +kernel
theorem dX8_init_0 : decode cX8_init 0 = .ok (.aload_n 0, 1) := dk_42 (dk_at dksX8_init_0 0 rfl rfl)
theorem dX8_init_1 : decode cX8_init 1 = .ok (.aload_n 1, 1) := dk_43 (dk_at dksX8_init_0 1 rfl rfl)
theorem dX8_init_2 : decode cX8_init 2 = .ok (.invokespecial 3, 3) := dk_183 0 3 (dk_at dksX8_init_0 2 rfl rfl)
theorem dX8_init_5 : decode cX8_init 5 = .ok (.aload_n 0, 1) := dk_42 (dk_at dksX8_init_0 5 rfl rfl)
theorem dX8_init_6 : decode cX8_init 6 = .ok (.bipush 6, 2) := dk_16 6 (dk_at dksX8_init_0 6 rfl rfl)
theorem dX8_init_8 : decode cX8_init 8 = .ok (.newarray .int, 2) := dk_188_10 (dk_at dksX8_init_0 8 rfl rfl)
theorem dX8_init_10 : decode cX8_init 10 = .ok (.putfield 9, 3) := dk_181 0 9 (dk_at dksX8_init_0 10 rfl rfl)
theorem dX8_init_13 : decode cX8_init 13 = .ok (.aload_n 0, 1) := dk_42 (dk_at dksX8_init_0 13 rfl rfl)
theorem dX8_init_14 : decode cX8_init 14 = .ok (.iload_n 2, 1) := dk_28 (dk_at dksX8_init_0 14 rfl rfl)
theorem dX8_init_15 : decode cX8_init 15 = .ok (.putfield 15, 3) := dk_181 0 15 (dk_at dksX8_init_0 15 rfl rfl)
theorem dX8_init_18 : decode cX8_init 18 = .ok (.return_, 1) := dk_177 (dk_at dksX8_init_0 18 rfl rfl)
theorem q190 : (Jvm.Cond.initialized "FourOnOne$Film") ∈ lw_all := lw_g (lw_at lw_m1 24 rfl) rfl
theorem q873 : (Jvm.Cond.selects "FourOnOne$Film" ({ cls := "java/lang/Object", name := "getClass", desc := "()Ljava/lang/Class;" } : Jvm.MethodName) ({ cls := "java/lang/Object", name := "getClass", desc := "()Ljava/lang/Class;" } : Jvm.MethodName)) ∈ lw_all := lw_g (lw_at lw_m3 227 rfl) rfl
theorem q909 : (Jvm.Cond.instantiable "FourOnOne$Film" (3 : Nat)) ∈ lw_all := lw_g (lw_at lw_m4 23 rfl) rfl
theorem q927 : (Jvm.Cond.instanceMethod ({ cls := "FourOnOne$Film", name := "<init>", desc := "(Ljava/lang/String;I)V" } : Jvm.MethodName)) ∈ lw_all := lw_g (lw_at lw_m4 41 rfl) rfl
theorem q928 : (Jvm.Cond.code ({ cls := "FourOnOne$Film", name := "<init>", desc := "(Ljava/lang/String;I)V" } : Jvm.MethodName) prog_7_method_1_code (3 : Nat) (Option.none : Option Jvm.ClassFile.FieldType)) ∈ lw_all := lw_g (lw_at lw_m4 42 rfl) rfl
theorem q929 : (Jvm.Cond.methodLink "FourOnOne$Film" (3 : Nat) ({ cls := "FourOnOne$Named", name := "<init>", desc := "(Ljava/lang/String;)V" } : Jvm.MethodName)) ∈ lw_all := lw_g (lw_at lw_m4 43 rfl) rfl
theorem q930 : (Jvm.Cond.fieldLink "FourOnOne$Film" (15 : Nat) "FourOnOne$Film" "parts" "I") ∈ lw_all := lw_g (lw_at lw_m4 44 rfl) rfl
theorem q933 : (Jvm.Cond.fieldLink "FourOnOne$Film" (9 : Nat) "FourOnOne$Film" "is" "[I") ∈ lw_all := lw_g (lw_at lw_m4 47 rfl) rfl
theorem q937 : (Jvm.Cond.laysFinal "FourOnOne$Film" "FourOnOne$Film" "parts" "I") ∈ lw_all := lw_g (lw_at lw_m4 51 rfl) rfl
theorem q938 : (Jvm.Cond.soleField "FourOnOne$Film" "parts") ∈ lw_all := lw_g (lw_at lw_m4 52 rfl) rfl
theorem q939 : (Jvm.Cond.laysFinal "FourOnOne$Film" "FourOnOne$Film" "is" "[I") ∈ lw_all := lw_g (lw_at lw_m4 53 rfl) rfl
theorem q940 : (Jvm.Cond.soleField "FourOnOne$Film" "is") ∈ lw_all := lw_g (lw_at lw_m4 54 rfl) rfl
theorem q941 : (Jvm.Cond.laysFinal "FourOnOne$Film" "FourOnOne$Named" "name" "Ljava/lang/String;") ∈ lw_all := lw_g (lw_at lw_m4 55 rfl) rfl
theorem q942 : (Jvm.Cond.superclass "FourOnOne$Film" "FourOnOne$Named") ∈ lw_all := lw_g (lw_at lw_m4 56 rfl) rfl
theorem q1304 : (Jvm.Cond.selects "FourOnOne$Film" ({ cls := "FourOnOne$Named", name := "letter", desc := "(I)I" } : Jvm.MethodName) ({ cls := "FourOnOne$Named", name := "letter", desc := "(I)I" } : Jvm.MethodName)) ∈ lw_all := lw_g (lw_at lw_m5 178 rfl) rfl
theorem q2635 : (Jvm.Cond.castable "FourOnOne$Film" "FourOnOne$Named") ∈ lw_tbl := lw_at lw_m11 69 rfl
theorem q2657 : (Jvm.Cond.castable "FourOnOne$Film" "java/lang/Object") ∈ lw_tbl := lw_at lw_m11 91 rfl
theorem in_X8 : ∀ w ∈ wsX80, w ∈ lw_all := lw_in wsX80 [941, 937, 939] (by decide +kernel) (by decide +kernel)

/-! FourOnOne$Person -/
set_option maxRecDepth 100000
def RX9 : String := "FourOnOne$Person"
def TX9 : u_T := fun k => match k with
  | 0 => ("FourOnOne$Named", "name", "Ljava/lang/String;", true)
  | 1 => ("FourOnOne$Person", "from", "I", true)
  | 2 => ("FourOnOne$Person", "to", "I", true)
  | _ => ("FourOnOne$Person", "likes", "[I", true)
def tyX9 : Nat → FieldType := fun k => match k with
  | 0 => .object "java/lang/String"
  | 1 => .int
  | 2 => .int
  | _ => .array .int
abbrev wsX90 : List Cond := u_ws RX9 TX9 4
theorem nmX9 : ∀ a, a < 4 → ∀ b, b < 4 → a ≠ b → (TX9 a).2.1 ≠ (TX9 b).2.1 := by decide +kernel
theorem tyX9_ok : ∀ k, k < 4 → parseFieldDescriptor (TX9 k).2.2.1 = some (tyX9 k) := by decide +kernel
abbrev cX9_init : ByteArray := prog_15_method_1_code
def yX9_init : MethodName := ⟨RX9, "<init>", "(Ljava/lang/String;II)V"⟩
def dkwX9_init_0 : List UInt8 := [42, 43, 183, 0, 3, 42, 16, 6, 188, 10, 181, 0, 9, 42, 28, 181, 0, 15, 42, 29, 181, 0, 19, 177]
abbrev dktX9_init_0 : List UInt8 := dkwX9_init_0 ++ []
theorem dksX9_init_0 : cX9_init.data.toList.drop 0 = dktX9_init_0 := by decide +kernel
theorem dX9_init_0 : decode cX9_init 0 = .ok (.aload_n 0, 1) := dk_42 (dk_at dksX9_init_0 0 rfl rfl)
theorem dX9_init_1 : decode cX9_init 1 = .ok (.aload_n 1, 1) := dk_43 (dk_at dksX9_init_0 1 rfl rfl)
theorem dX9_init_2 : decode cX9_init 2 = .ok (.invokespecial 3, 3) := dk_183 0 3 (dk_at dksX9_init_0 2 rfl rfl)
theorem dX9_init_5 : decode cX9_init 5 = .ok (.aload_n 0, 1) := dk_42 (dk_at dksX9_init_0 5 rfl rfl)
theorem dX9_init_6 : decode cX9_init 6 = .ok (.bipush 6, 2) := dk_16 6 (dk_at dksX9_init_0 6 rfl rfl)
theorem dX9_init_8 : decode cX9_init 8 = .ok (.newarray .int, 2) := dk_188_10 (dk_at dksX9_init_0 8 rfl rfl)
theorem dX9_init_10 : decode cX9_init 10 = .ok (.putfield 9, 3) := dk_181 0 9 (dk_at dksX9_init_0 10 rfl rfl)
theorem dX9_init_13 : decode cX9_init 13 = .ok (.aload_n 0, 1) := dk_42 (dk_at dksX9_init_0 13 rfl rfl)
theorem dX9_init_14 : decode cX9_init 14 = .ok (.iload_n 2, 1) := dk_28 (dk_at dksX9_init_0 14 rfl rfl)
theorem dX9_init_15 : decode cX9_init 15 = .ok (.putfield 15, 3) := dk_181 0 15 (dk_at dksX9_init_0 15 rfl rfl)
theorem dX9_init_18 : decode cX9_init 18 = .ok (.aload_n 0, 1) := dk_42 (dk_at dksX9_init_0 18 rfl rfl)
theorem dX9_init_19 : decode cX9_init 19 = .ok (.iload_n 3, 1) := dk_29 (dk_at dksX9_init_0 19 rfl rfl)
theorem dX9_init_20 : decode cX9_init 20 = .ok (.putfield 19, 3) := dk_181 0 19 (dk_at dksX9_init_0 20 rfl rfl)
theorem dX9_init_23 : decode cX9_init 23 = .ok (.return_, 1) := dk_177 (dk_at dksX9_init_0 23 rfl rfl)
theorem q191 : (Jvm.Cond.initialized "FourOnOne$Person") ∈ lw_all := lw_g (lw_at lw_m1 25 rfl) rfl
theorem q881 : (Jvm.Cond.selects "FourOnOne$Person" ({ cls := "java/lang/Object", name := "getClass", desc := "()Ljava/lang/Class;" } : Jvm.MethodName) ({ cls := "java/lang/Object", name := "getClass", desc := "()Ljava/lang/Class;" } : Jvm.MethodName)) ∈ lw_all := lw_g (lw_at lw_m3 235 rfl) rfl
theorem q951 : (Jvm.Cond.instantiable "FourOnOne$Person" (4 : Nat)) ∈ lw_all := lw_g (lw_at lw_m4 65 rfl) rfl
theorem q954 : (Jvm.Cond.instanceMethod ({ cls := "FourOnOne$Person", name := "<init>", desc := "(Ljava/lang/String;II)V" } : Jvm.MethodName)) ∈ lw_all := lw_g (lw_at lw_m4 68 rfl) rfl
theorem q955 : (Jvm.Cond.code ({ cls := "FourOnOne$Person", name := "<init>", desc := "(Ljava/lang/String;II)V" } : Jvm.MethodName) prog_15_method_1_code (4 : Nat) (Option.none : Option Jvm.ClassFile.FieldType)) ∈ lw_all := lw_g (lw_at lw_m4 69 rfl) rfl
theorem q956 : (Jvm.Cond.methodLink "FourOnOne$Person" (3 : Nat) ({ cls := "FourOnOne$Named", name := "<init>", desc := "(Ljava/lang/String;)V" } : Jvm.MethodName)) ∈ lw_all := lw_g (lw_at lw_m4 70 rfl) rfl
theorem q957 : (Jvm.Cond.fieldLink "FourOnOne$Person" (15 : Nat) "FourOnOne$Person" "from" "I") ∈ lw_all := lw_g (lw_at lw_m4 71 rfl) rfl
theorem q959 : (Jvm.Cond.fieldLink "FourOnOne$Person" (19 : Nat) "FourOnOne$Person" "to" "I") ∈ lw_all := lw_g (lw_at lw_m4 73 rfl) rfl
theorem q961 : (Jvm.Cond.fieldLink "FourOnOne$Person" (9 : Nat) "FourOnOne$Person" "likes" "[I") ∈ lw_all := lw_g (lw_at lw_m4 75 rfl) rfl
theorem q964 : (Jvm.Cond.laysFinal "FourOnOne$Person" "FourOnOne$Person" "from" "I") ∈ lw_all := lw_g (lw_at lw_m4 78 rfl) rfl
theorem q965 : (Jvm.Cond.soleField "FourOnOne$Person" "from") ∈ lw_all := lw_g (lw_at lw_m4 79 rfl) rfl
theorem q966 : (Jvm.Cond.laysFinal "FourOnOne$Person" "FourOnOne$Person" "to" "I") ∈ lw_all := lw_g (lw_at lw_m4 80 rfl) rfl
theorem q967 : (Jvm.Cond.soleField "FourOnOne$Person" "to") ∈ lw_all := lw_g (lw_at lw_m4 81 rfl) rfl
theorem q968 : (Jvm.Cond.laysFinal "FourOnOne$Person" "FourOnOne$Person" "likes" "[I") ∈ lw_all := lw_g (lw_at lw_m4 82 rfl) rfl
theorem q969 : (Jvm.Cond.soleField "FourOnOne$Person" "likes") ∈ lw_all := lw_g (lw_at lw_m4 83 rfl) rfl
theorem q970 : (Jvm.Cond.laysFinal "FourOnOne$Person" "FourOnOne$Named" "name" "Ljava/lang/String;") ∈ lw_all := lw_g (lw_at lw_m4 84 rfl) rfl
theorem q971 : (Jvm.Cond.superclass "FourOnOne$Person" "FourOnOne$Named") ∈ lw_all := lw_g (lw_at lw_m4 85 rfl) rfl
theorem q1305 : (Jvm.Cond.selects "FourOnOne$Person" ({ cls := "FourOnOne$Named", name := "letter", desc := "(I)I" } : Jvm.MethodName) ({ cls := "FourOnOne$Named", name := "letter", desc := "(I)I" } : Jvm.MethodName)) ∈ lw_all := lw_g (lw_at lw_m5 179 rfl) rfl
theorem q2636 : (Jvm.Cond.castable "FourOnOne$Person" "FourOnOne$Named") ∈ lw_tbl := lw_at lw_m11 70 rfl
theorem q2658 : (Jvm.Cond.castable "FourOnOne$Person" "java/lang/Object") ∈ lw_tbl := lw_at lw_m11 92 rfl
theorem in_X9 : ∀ w ∈ wsX90, w ∈ lw_all := lw_in wsX90 [970, 964, 966, 968] (by decide +kernel) (by decide +kernel)

/-! FourOnOne$Value -/
set_option maxRecDepth 100000
def RX10 : String := "FourOnOne$Value"
abbrev cX10_init : ByteArray := prog_21_method_1_code
def yX10_init : MethodName := ⟨RX10, "<init>", "()V"⟩
theorem dX10_init_0 : decode cX10_init 0 = .ok (.aload_n 0, 1) := by decide +kernel
theorem dX10_init_1 : decode cX10_init 1 = .ok (.invokespecial 1, 3) := by decide +kernel
theorem dX10_init_4 : decode cX10_init 4 = .ok (.return_, 1) := by decide +kernel
theorem q192 : (Jvm.Cond.initialized "FourOnOne$Value") ∈ lw_all := lw_g (lw_at lw_m1 26 rfl) rfl
theorem q1002 : (Jvm.Cond.instanceMethod ({ cls := "FourOnOne$Value", name := "<init>", desc := "()V" } : Jvm.MethodName)) ∈ lw_all := lw_g (lw_at lw_m4 116 rfl) rfl
theorem q1003 : (Jvm.Cond.code ({ cls := "FourOnOne$Value", name := "<init>", desc := "()V" } : Jvm.MethodName) prog_21_method_1_code (1 : Nat) (Option.none : Option Jvm.ClassFile.FieldType)) ∈ lw_all := lw_g (lw_at lw_m4 117 rfl) rfl
theorem q1004 : (Jvm.Cond.methodLink "FourOnOne$Value" (1 : Nat) ({ cls := "java/lang/Object", name := "<init>", desc := "()V" } : Jvm.MethodName)) ∈ lw_all := lw_g (lw_at lw_m4 118 rfl) rfl
theorem q1407 : (Jvm.Cond.declares ({ cls := "FourOnOne$Value", name := "at", desc := "(LFourOnOne$Moment;)J" } : Jvm.MethodName)) ∈ lw_tbl := lw_at lw_m6 41 rfl
theorem q1408 : (Jvm.Cond.sameMethod "FourOnOne$Value" "FourOnOne$Value" "at" "(LFourOnOne$Moment;)J") ∈ lw_all := lw_g (lw_at lw_m6 42 rfl) rfl

/-! FourOnOne$Chain -/
set_option maxRecDepth 100000
def RX11 : String := "FourOnOne$Chain"
def TX11 : u_T := fun k => match k with
  | 0 => ("FourOnOne$Chain", "values", "Ljava/util/List;", true)
  | _ => ("FourOnOne$Chain", "signs", "Ljava/lang/StringBuilder;", true)
def tyX11 : Nat → FieldType := fun k => match k with
  | 0 => .object "java/util/List"
  | _ => .object "java/lang/StringBuilder"
abbrev wsX110 : List Cond := u_ws RX11 TX11 2
theorem nmX11 : ∀ a, a < 2 → ∀ b, b < 2 → a ≠ b → (TX11 a).2.1 ≠ (TX11 b).2.1 := by decide +kernel
theorem tyX11_ok : ∀ k, k < 2 → parseFieldDescriptor (TX11 k).2.2.1 = some (tyX11 k) := by decide +kernel
abbrev cX11_init : ByteArray := prog_4_method_1_code
def yX11_init : MethodName := ⟨RX11, "<init>", "()V"⟩
def dkwX11_init_1 : List UInt8 := [181, 0, 21, 177]
abbrev dktX11_init_1 : List UInt8 := dkwX11_init_1 ++ []
def dkwX11_init_0 : List UInt8 := [42, 183, 0, 1, 42, 187, 0, 7, 89, 5, 183, 0, 9, 181, 0, 12, 42, 187, 0, 18, 89, 183, 0, 20]
abbrev dktX11_init_0 : List UInt8 := dkwX11_init_0 ++ dktX11_init_1
theorem dksX11_init_0 : cX11_init.data.toList.drop 0 = dktX11_init_0 := by decide +kernel
theorem dksX11_init_1 : cX11_init.data.toList.drop 24 = dktX11_init_1 := dk_seg dksX11_init_0 24 rfl rfl
theorem dX11_init_0 : decode cX11_init 0 = .ok (.aload_n 0, 1) := dk_42 (dk_at dksX11_init_0 0 rfl rfl)
theorem dX11_init_1 : decode cX11_init 1 = .ok (.invokespecial 1, 3) := dk_183 0 1 (dk_at dksX11_init_0 1 rfl rfl)
theorem dX11_init_4 : decode cX11_init 4 = .ok (.aload_n 0, 1) := dk_42 (dk_at dksX11_init_0 4 rfl rfl)
theorem dX11_init_5 : decode cX11_init 5 = .ok (.new 7, 3) := dk_187 0 7 (dk_at dksX11_init_0 5 rfl rfl)
theorem dX11_init_8 : decode cX11_init 8 = .ok (.dup, 1) := dk_89 (dk_at dksX11_init_0 8 rfl rfl)
theorem dX11_init_9 : decode cX11_init 9 = .ok (.iconst 2, 1) := dk_5 (dk_at dksX11_init_0 9 rfl rfl)
theorem dX11_init_10 : decode cX11_init 10 = .ok (.invokespecial 9, 3) := dk_183 0 9 (dk_at dksX11_init_0 10 rfl rfl)
theorem dX11_init_13 : decode cX11_init 13 = .ok (.putfield 12, 3) := dk_181 0 12 (dk_at dksX11_init_0 13 rfl rfl)
theorem dX11_init_16 : decode cX11_init 16 = .ok (.aload_n 0, 1) := dk_42 (dk_at dksX11_init_0 16 rfl rfl)
theorem dX11_init_17 : decode cX11_init 17 = .ok (.new 18, 3) := dk_187 0 18 (dk_at dksX11_init_0 17 rfl rfl)
theorem dX11_init_20 : decode cX11_init 20 = .ok (.dup, 1) := dk_89 (dk_at dksX11_init_0 20 rfl rfl)
theorem dX11_init_21 : decode cX11_init 21 = .ok (.invokespecial 20, 3) := dk_183 0 20 (dk_at dksX11_init_0 21 rfl rfl)
theorem dX11_init_24 : decode cX11_init 24 = .ok (.putfield 21, 3) := dk_181 0 21 (dk_at dksX11_init_1 0 rfl rfl)
theorem dX11_init_27 : decode cX11_init 27 = .ok (.return_, 1) := dk_177 (dk_at dksX11_init_1 3 rfl rfl)
abbrev cX11_add : ByteArray := prog_4_method_2_code
def yX11_add : MethodName := ⟨RX11, "add", "(CLFourOnOne$Value;)V"⟩
def dkwX11_add_0 : List UInt8 := [42, 180, 0, 21, 27, 182, 0, 25, 87, 42, 180, 0, 12, 44, 185, 0, 29, 2, 0, 87, 177]
abbrev dktX11_add_0 : List UInt8 := dkwX11_add_0 ++ []
theorem dksX11_add_0 : cX11_add.data.toList.drop 0 = dktX11_add_0 := by decide +kernel
theorem dX11_add_0 : decode cX11_add 0 = .ok (.aload_n 0, 1) := dk_42 (dk_at dksX11_add_0 0 rfl rfl)
theorem dX11_add_1 : decode cX11_add 1 = .ok (.getfield 21, 3) := dk_180 0 21 (dk_at dksX11_add_0 1 rfl rfl)
theorem dX11_add_4 : decode cX11_add 4 = .ok (.iload_n 1, 1) := dk_27 (dk_at dksX11_add_0 4 rfl rfl)
theorem dX11_add_5 : decode cX11_add 5 = .ok (.invokevirtual 25, 3) := dk_182 0 25 (dk_at dksX11_add_0 5 rfl rfl)
theorem dX11_add_8 : decode cX11_add 8 = .ok (.pop, 1) := dk_87 (dk_at dksX11_add_0 8 rfl rfl)
theorem dX11_add_9 : decode cX11_add 9 = .ok (.aload_n 0, 1) := dk_42 (dk_at dksX11_add_0 9 rfl rfl)
theorem dX11_add_10 : decode cX11_add 10 = .ok (.getfield 12, 3) := dk_180 0 12 (dk_at dksX11_add_0 10 rfl rfl)
theorem dX11_add_13 : decode cX11_add 13 = .ok (.aload_n 2, 1) := dk_44 (dk_at dksX11_add_0 13 rfl rfl)
theorem dX11_add_14 : decode cX11_add 14 = .ok (.invokeinterface 29 2, 5) := by decide +kernel
theorem dX11_add_19 : decode cX11_add 19 = .ok (.pop, 1) := dk_87 (dk_at dksX11_add_0 19 rfl rfl)
theorem dX11_add_20 : decode cX11_add 20 = .ok (.return_, 1) := dk_177 (dk_at dksX11_add_0 20 rfl rfl)
abbrev cX11_at : ByteArray := prog_4_method_3_code
def yX11_at : MethodName := ⟨RX11, "at", "(LFourOnOne$Moment;)J"⟩
def dkwX11_at_3 : List UInt8 := [132, 4, 1, 167, 255, 204, 32, 173]
abbrev dktX11_at_3 : List UInt8 := dkwX11_at_3 ++ []
def dkwX11_at_2 : List UInt8 := [180, 0, 12, 21, 4, 185, 0, 35, 2, 0, 192, 0, 2, 43, 182, 0, 39, 184, 0, 51, 184, 0, 55, 65]
abbrev dktX11_at_2 : List UInt8 := dkwX11_at_2 ++ dktX11_at_3
def dkwX11_at_1 : List UInt8 := [180, 0, 12, 185, 0, 43, 1, 0, 162, 0, 44, 42, 180, 0, 21, 21, 4, 182, 0, 47, 32, 42]
abbrev dktX11_at_1 : List UInt8 := dkwX11_at_1 ++ dktX11_at_2
def dkwX11_at_0 : List UInt8 := [42, 180, 0, 12, 3, 185, 0, 35, 2, 0, 192, 0, 2, 43, 182, 0, 39, 65, 4, 54, 4, 21, 4, 42]
abbrev dktX11_at_0 : List UInt8 := dkwX11_at_0 ++ dktX11_at_1
theorem dksX11_at_0 : cX11_at.data.toList.drop 0 = dktX11_at_0 := by decide +kernel
theorem dksX11_at_1 : cX11_at.data.toList.drop 24 = dktX11_at_1 := dk_seg dksX11_at_0 24 rfl rfl
theorem dksX11_at_2 : cX11_at.data.toList.drop 46 = dktX11_at_2 := dk_seg dksX11_at_1 22 rfl rfl
theorem dksX11_at_3 : cX11_at.data.toList.drop 70 = dktX11_at_3 := dk_seg dksX11_at_2 24 rfl rfl
theorem dX11_at_0 : decode cX11_at 0 = .ok (.aload_n 0, 1) := dk_42 (dk_at dksX11_at_0 0 rfl rfl)
theorem dX11_at_1 : decode cX11_at 1 = .ok (.getfield 12, 3) := dk_180 0 12 (dk_at dksX11_at_0 1 rfl rfl)
theorem dX11_at_4 : decode cX11_at 4 = .ok (.iconst 0, 1) := dk_3 (dk_at dksX11_at_0 4 rfl rfl)
theorem dX11_at_5 : decode cX11_at 5 = .ok (.invokeinterface 35 2, 5) := by decide +kernel
theorem dX11_at_10 : decode cX11_at 10 = .ok (.checkcast 2, 3) := dk_192 0 2 (dk_at dksX11_at_0 10 rfl rfl)
theorem dX11_at_13 : decode cX11_at 13 = .ok (.aload_n 1, 1) := dk_43 (dk_at dksX11_at_0 13 rfl rfl)
theorem dX11_at_14 : decode cX11_at 14 = .ok (.invokevirtual 39, 3) := dk_182 0 39 (dk_at dksX11_at_0 14 rfl rfl)
theorem dX11_at_17 : decode cX11_at 17 = .ok (.lstore_n 2, 1) := dk_65 (dk_at dksX11_at_0 17 rfl rfl)
theorem dX11_at_18 : decode cX11_at 18 = .ok (.iconst 1, 1) := dk_4 (dk_at dksX11_at_0 18 rfl rfl)
theorem dX11_at_19 : decode cX11_at 19 = .ok (.istore 4, 2) := dk_54 4 (dk_at dksX11_at_0 19 rfl rfl)
theorem dX11_at_21 : decode cX11_at 21 = .ok (.iload 4, 2) := dk_21 4 (dk_at dksX11_at_0 21 rfl rfl)
theorem dX11_at_23 : decode cX11_at 23 = .ok (.aload_n 0, 1) := dk_42 (dk_at dksX11_at_0 23 rfl rfl)
theorem dX11_at_24 : decode cX11_at 24 = .ok (.getfield 12, 3) := dk_180 0 12 (dk_at dksX11_at_1 0 rfl rfl)
theorem dX11_at_27 : decode cX11_at 27 = .ok (.invokeinterface 43 1, 5) := by decide +kernel
theorem dX11_at_32 : decode cX11_at 32 = .ok (.if_icmp .ge 44, 3) := dk_162 0 44 (dk_at dksX11_at_1 8 rfl rfl)
theorem dX11_at_35 : decode cX11_at 35 = .ok (.aload_n 0, 1) := dk_42 (dk_at dksX11_at_1 11 rfl rfl)
theorem dX11_at_36 : decode cX11_at 36 = .ok (.getfield 21, 3) := dk_180 0 21 (dk_at dksX11_at_1 12 rfl rfl)
theorem dX11_at_39 : decode cX11_at 39 = .ok (.iload 4, 2) := dk_21 4 (dk_at dksX11_at_1 15 rfl rfl)
theorem dX11_at_41 : decode cX11_at 41 = .ok (.invokevirtual 47, 3) := dk_182 0 47 (dk_at dksX11_at_1 17 rfl rfl)
theorem dX11_at_44 : decode cX11_at 44 = .ok (.lload_n 2, 1) := dk_32 (dk_at dksX11_at_1 20 rfl rfl)
theorem dX11_at_45 : decode cX11_at 45 = .ok (.aload_n 0, 1) := dk_42 (dk_at dksX11_at_1 21 rfl rfl)
theorem dX11_at_46 : decode cX11_at 46 = .ok (.getfield 12, 3) := dk_180 0 12 (dk_at dksX11_at_2 0 rfl rfl)
theorem dX11_at_49 : decode cX11_at 49 = .ok (.iload 4, 2) := dk_21 4 (dk_at dksX11_at_2 3 rfl rfl)
theorem dX11_at_51 : decode cX11_at 51 = .ok (.invokeinterface 35 2, 5) := by decide +kernel
theorem dX11_at_56 : decode cX11_at 56 = .ok (.checkcast 2, 3) := dk_192 0 2 (dk_at dksX11_at_2 10 rfl rfl)
theorem dX11_at_59 : decode cX11_at 59 = .ok (.aload_n 1, 1) := dk_43 (dk_at dksX11_at_2 13 rfl rfl)
theorem dX11_at_60 : decode cX11_at 60 = .ok (.invokevirtual 39, 3) := dk_182 0 39 (dk_at dksX11_at_2 14 rfl rfl)
theorem dX11_at_63 : decode cX11_at 63 = .ok (.invokestatic 51, 3) := dk_184 0 51 (dk_at dksX11_at_2 17 rfl rfl)
theorem dX11_at_66 : decode cX11_at 66 = .ok (.invokestatic 55, 3) := dk_184 0 55 (dk_at dksX11_at_2 20 rfl rfl)
theorem dX11_at_69 : decode cX11_at 69 = .ok (.lstore_n 2, 1) := dk_65 (dk_at dksX11_at_2 23 rfl rfl)
theorem dX11_at_70 : decode cX11_at 70 = .ok (.iinc 4 1, 3) := dk_132 4 1 (dk_at dksX11_at_3 0 rfl rfl)
theorem dX11_at_73 : decode cX11_at 73 = .ok (.goto (-52), 3) := dk_167 255 204 (dk_at dksX11_at_3 3 rfl rfl)
theorem dX11_at_76 : decode cX11_at 76 = .ok (.lload_n 2, 1) := dk_32 (dk_at dksX11_at_3 6 rfl rfl)
theorem dX11_at_77 : decode cX11_at 77 = .ok (.lreturn, 1) := dk_173 (dk_at dksX11_at_3 7 rfl rfl)
abbrev cX11_two : ByteArray := prog_4_method_4_code
def yX11_two : MethodName := ⟨RX11, "two", "(CJJ)J"⟩
def dkwX11_two_3 : List UInt8 := [184, 0, 61, 173]
abbrev dktX11_two_3 : List UInt8 := dkwX11_two_3 ++ []
def dkwX11_two_2 : List UInt8 := [31, 33, 97, 173, 31, 33, 101, 173, 31, 33, 105, 173, 33, 9, 148, 154, 0, 7, 9, 167, 0, 8, 31, 33]
abbrev dktX11_two_2 : List UInt8 := dkwX11_two_2 ++ dktX11_two_3
def dkwX11_two_1 : List UInt8 := [170, 0, 0, 0, 0, 0, 43, 0, 0, 0, 42, 0, 0, 0, 45, 0, 0, 0, 39, 0, 0, 0, 31, 0, 0, 0, 43, 0, 0, 0, 35]
abbrev dktX11_two_1 : List UInt8 := dkwX11_two_1 ++ dktX11_two_2
def dkwX11_two_0 : List UInt8 := [26]
abbrev dktX11_two_0 : List UInt8 := dkwX11_two_0 ++ dktX11_two_1
theorem dksX11_two_0 : cX11_two.data.toList.drop 0 = dktX11_two_0 := by decide +kernel
theorem dksX11_two_1 : cX11_two.data.toList.drop 1 = dktX11_two_1 := dk_seg dksX11_two_0 1 rfl rfl
theorem dksX11_two_2 : cX11_two.data.toList.drop 32 = dktX11_two_2 := dk_seg dksX11_two_1 31 rfl rfl
theorem dksX11_two_3 : cX11_two.data.toList.drop 56 = dktX11_two_3 := dk_seg dksX11_two_2 24 rfl rfl
theorem dX11_two_0 : decode cX11_two 0 = .ok (.iload_n 0, 1) := dk_26 (dk_at dksX11_two_0 0 rfl rfl)
theorem dX11_two_1 : decode cX11_two 1 = .ok (.tableswitch 43 42 45 #[39, 31, 43, 35], 31) := by decide +kernel
theorem dX11_two_32 : decode cX11_two 32 = .ok (.lload_n 1, 1) := dk_31 (dk_at dksX11_two_2 0 rfl rfl)
theorem dX11_two_33 : decode cX11_two 33 = .ok (.lload_n 3, 1) := dk_33 (dk_at dksX11_two_2 1 rfl rfl)
theorem dX11_two_34 : decode cX11_two 34 = .ok (.ladd, 1) := dk_97 (dk_at dksX11_two_2 2 rfl rfl)
theorem dX11_two_35 : decode cX11_two 35 = .ok (.lreturn, 1) := dk_173 (dk_at dksX11_two_2 3 rfl rfl)
theorem dX11_two_36 : decode cX11_two 36 = .ok (.lload_n 1, 1) := dk_31 (dk_at dksX11_two_2 4 rfl rfl)
theorem dX11_two_37 : decode cX11_two 37 = .ok (.lload_n 3, 1) := dk_33 (dk_at dksX11_two_2 5 rfl rfl)
theorem dX11_two_38 : decode cX11_two 38 = .ok (.lsub, 1) := dk_101 (dk_at dksX11_two_2 6 rfl rfl)
theorem dX11_two_39 : decode cX11_two 39 = .ok (.lreturn, 1) := dk_173 (dk_at dksX11_two_2 7 rfl rfl)
theorem dX11_two_40 : decode cX11_two 40 = .ok (.lload_n 1, 1) := dk_31 (dk_at dksX11_two_2 8 rfl rfl)
theorem dX11_two_41 : decode cX11_two 41 = .ok (.lload_n 3, 1) := dk_33 (dk_at dksX11_two_2 9 rfl rfl)
theorem dX11_two_42 : decode cX11_two 42 = .ok (.lmul, 1) := dk_105 (dk_at dksX11_two_2 10 rfl rfl)
theorem dX11_two_43 : decode cX11_two 43 = .ok (.lreturn, 1) := dk_173 (dk_at dksX11_two_2 11 rfl rfl)
theorem dX11_two_44 : decode cX11_two 44 = .ok (.lload_n 3, 1) := dk_33 (dk_at dksX11_two_2 12 rfl rfl)
theorem dX11_two_45 : decode cX11_two 45 = .ok (.lconst 0, 1) := dk_9 (dk_at dksX11_two_2 13 rfl rfl)
theorem dX11_two_46 : decode cX11_two 46 = .ok (.lcmp, 1) := dk_148 (dk_at dksX11_two_2 14 rfl rfl)
theorem dX11_two_47 : decode cX11_two 47 = .ok (.ifCond .ne 7, 3) := dk_154 0 7 (dk_at dksX11_two_2 15 rfl rfl)
theorem dX11_two_50 : decode cX11_two 50 = .ok (.lconst 0, 1) := dk_9 (dk_at dksX11_two_2 18 rfl rfl)
theorem dX11_two_51 : decode cX11_two 51 = .ok (.goto 8, 3) := dk_167 0 8 (dk_at dksX11_two_2 19 rfl rfl)
theorem dX11_two_54 : decode cX11_two 54 = .ok (.lload_n 1, 1) := dk_31 (dk_at dksX11_two_2 22 rfl rfl)
theorem dX11_two_55 : decode cX11_two 55 = .ok (.lload_n 3, 1) := dk_33 (dk_at dksX11_two_2 23 rfl rfl)
theorem dX11_two_56 : decode cX11_two 56 = .ok (.invokestatic 61, 3) := dk_184 0 61 (dk_at dksX11_two_3 0 rfl rfl)
theorem dX11_two_59 : decode cX11_two 59 = .ok (.lreturn, 1) := dk_173 (dk_at dksX11_two_3 3 rfl rfl)
theorem q193 : (Jvm.Cond.initialized "FourOnOne$Chain") ∈ lw_all := lw_g (lw_at lw_m1 27 rfl) rfl
theorem q870 : (Jvm.Cond.selects "FourOnOne$Chain" ({ cls := "java/lang/Object", name := "getClass", desc := "()Ljava/lang/Class;" } : Jvm.MethodName) ({ cls := "java/lang/Object", name := "getClass", desc := "()Ljava/lang/Class;" } : Jvm.MethodName)) ∈ lw_all := lw_g (lw_at lw_m3 224 rfl) rfl
theorem q997 : (Jvm.Cond.instantiable "FourOnOne$Chain" (2 : Nat)) ∈ lw_all := lw_g (lw_at lw_m4 111 rfl) rfl
theorem q999 : (Jvm.Cond.instanceMethod ({ cls := "FourOnOne$Chain", name := "<init>", desc := "()V" } : Jvm.MethodName)) ∈ lw_all := lw_g (lw_at lw_m4 113 rfl) rfl
theorem q1000 : (Jvm.Cond.code ({ cls := "FourOnOne$Chain", name := "<init>", desc := "()V" } : Jvm.MethodName) prog_4_method_1_code (1 : Nat) (Option.none : Option Jvm.ClassFile.FieldType)) ∈ lw_all := lw_g (lw_at lw_m4 114 rfl) rfl
theorem q1001 : (Jvm.Cond.methodLinkNest "FourOnOne$Chain" (1 : Nat) ({ cls := "FourOnOne$Value", name := "<init>", desc := "()V" } : Jvm.MethodName) "FourOnOne") ∈ lw_tbl := lw_at lw_m4 115 rfl
theorem q1005 : (Jvm.Cond.classLink "FourOnOne$Chain" (7 : Nat) "java/util/ArrayList") ∈ lw_all := lw_g (lw_at lw_m4 119 rfl) rfl
theorem q1006 : (Jvm.Cond.methodLink "FourOnOne$Chain" (9 : Nat) ({ cls := "java/util/ArrayList", name := "<init>", desc := "(I)V" } : Jvm.MethodName)) ∈ lw_all := lw_g (lw_at lw_m4 120 rfl) rfl
theorem q1007 : (Jvm.Cond.classLink "FourOnOne$Chain" (18 : Nat) "java/lang/StringBuilder") ∈ lw_all := lw_g (lw_at lw_m4 121 rfl) rfl
theorem q1009 : (Jvm.Cond.methodLink "FourOnOne$Chain" (20 : Nat) ({ cls := "java/lang/StringBuilder", name := "<init>", desc := "()V" } : Jvm.MethodName)) ∈ lw_all := lw_g (lw_at lw_m4 123 rfl) rfl
theorem q1030 : (Jvm.Cond.fieldLink "FourOnOne$Chain" (12 : Nat) "FourOnOne$Chain" "values" "Ljava/util/List;") ∈ lw_all := lw_g (lw_at lw_m4 144 rfl) rfl
theorem q1031 : (Jvm.Cond.fieldLink "FourOnOne$Chain" (21 : Nat) "FourOnOne$Chain" "signs" "Ljava/lang/StringBuilder;") ∈ lw_all := lw_g (lw_at lw_m4 145 rfl) rfl
theorem q1032 : (Jvm.Cond.laysFinal "FourOnOne$Chain" "FourOnOne$Chain" "values" "Ljava/util/List;") ∈ lw_all := lw_g (lw_at lw_m4 146 rfl) rfl
theorem q1033 : (Jvm.Cond.soleField "FourOnOne$Chain" "values") ∈ lw_all := lw_g (lw_at lw_m4 147 rfl) rfl
theorem q1034 : (Jvm.Cond.laysFinal "FourOnOne$Chain" "FourOnOne$Chain" "signs" "Ljava/lang/StringBuilder;") ∈ lw_all := lw_g (lw_at lw_m4 148 rfl) rfl
theorem q1035 : (Jvm.Cond.soleField "FourOnOne$Chain" "signs") ∈ lw_all := lw_g (lw_at lw_m4 149 rfl) rfl
theorem q1036 : (Jvm.Cond.superclass "FourOnOne$Chain" "FourOnOne$Value") ∈ lw_all := lw_g (lw_at lw_m4 150 rfl) rfl
theorem q1120 : (Jvm.Cond.instanceMethod ({ cls := "FourOnOne$Chain", name := "add", desc := "(CLFourOnOne$Value;)V" } : Jvm.MethodName)) ∈ lw_all := lw_g (lw_at lw_m4 234 rfl) rfl
theorem q1121 : (Jvm.Cond.selects "FourOnOne$Chain" ({ cls := "FourOnOne$Chain", name := "add", desc := "(CLFourOnOne$Value;)V" } : Jvm.MethodName) ({ cls := "FourOnOne$Chain", name := "add", desc := "(CLFourOnOne$Value;)V" } : Jvm.MethodName)) ∈ lw_all := lw_g (lw_at lw_m4 235 rfl) rfl
theorem q1122 : (Jvm.Cond.code ({ cls := "FourOnOne$Chain", name := "add", desc := "(CLFourOnOne$Value;)V" } : Jvm.MethodName) prog_4_method_2_code (3 : Nat) (Option.none : Option Jvm.ClassFile.FieldType)) ∈ lw_all := lw_g (lw_at lw_m4 236 rfl) rfl
theorem q1123 : (Jvm.Cond.methodLink "FourOnOne$Chain" (25 : Nat) ({ cls := "java/lang/StringBuilder", name := "append", desc := "(C)Ljava/lang/StringBuilder;" } : Jvm.MethodName)) ∈ lw_all := lw_g (lw_at lw_m4 237 rfl) rfl
theorem q1178 : (Jvm.Cond.interfaceEntry "FourOnOne$Chain" (29 : Nat)) ∈ lw_tbl := lw_at lw_m5 52 rfl
theorem q1179 : (Jvm.Cond.methodLink "FourOnOne$Chain" (29 : Nat) ({ cls := "java/util/List", name := "add", desc := "(Ljava/lang/Object;)Z" } : Jvm.MethodName)) ∈ lw_all := lw_g (lw_at lw_m5 53 rfl) rfl
theorem q1423 : (Jvm.Cond.selects "FourOnOne$Chain" ({ cls := "FourOnOne$Value", name := "at", desc := "(LFourOnOne$Moment;)J" } : Jvm.MethodName) ({ cls := "FourOnOne$Chain", name := "at", desc := "(LFourOnOne$Moment;)J" } : Jvm.MethodName)) ∈ lw_all := lw_g (lw_at lw_m6 57 rfl) rfl
theorem q1424 : (Jvm.Cond.instanceMethod ({ cls := "FourOnOne$Chain", name := "at", desc := "(LFourOnOne$Moment;)J" } : Jvm.MethodName)) ∈ lw_all := lw_g (lw_at lw_m6 58 rfl) rfl
theorem q1425 : (Jvm.Cond.code ({ cls := "FourOnOne$Chain", name := "at", desc := "(LFourOnOne$Moment;)J" } : Jvm.MethodName) prog_4_method_3_code (5 : Nat) (Option.some Jvm.ClassFile.FieldType.long)) ∈ lw_all := lw_g (lw_at lw_m6 59 rfl) rfl
theorem q1426 : (Jvm.Cond.interfaceEntry "FourOnOne$Chain" (35 : Nat)) ∈ lw_tbl := lw_at lw_m6 60 rfl
theorem q1427 : (Jvm.Cond.methodLink "FourOnOne$Chain" (35 : Nat) ({ cls := "java/util/List", name := "get", desc := "(I)Ljava/lang/Object;" } : Jvm.MethodName)) ∈ lw_all := lw_g (lw_at lw_m6 61 rfl) rfl
theorem q1428 : (Jvm.Cond.classLink "FourOnOne$Chain" (2 : Nat) "FourOnOne$Value") ∈ lw_all := lw_g (lw_at lw_m6 62 rfl) rfl
theorem q1429 : (Jvm.Cond.methodLink "FourOnOne$Chain" (39 : Nat) ({ cls := "FourOnOne$Value", name := "at", desc := "(LFourOnOne$Moment;)J" } : Jvm.MethodName)) ∈ lw_all := lw_g (lw_at lw_m6 63 rfl) rfl
theorem q1443 : (Jvm.Cond.interfaceEntry "FourOnOne$Chain" (43 : Nat)) ∈ lw_tbl := lw_at lw_m6 77 rfl
theorem q1444 : (Jvm.Cond.methodLink "FourOnOne$Chain" (43 : Nat) ({ cls := "java/util/List", name := "size", desc := "()I" } : Jvm.MethodName)) ∈ lw_all := lw_g (lw_at lw_m6 78 rfl) rfl
theorem q1445 : (Jvm.Cond.methodLink "FourOnOne$Chain" (47 : Nat) ({ cls := "java/lang/StringBuilder", name := "charAt", desc := "(I)C" } : Jvm.MethodName)) ∈ lw_all := lw_g (lw_at lw_m6 79 rfl) rfl
theorem q1455 : (Jvm.Cond.methodLink "FourOnOne$Chain" (51 : Nat) ({ cls := "FourOnOne$Chain", name := "two", desc := "(CJJ)J" } : Jvm.MethodName)) ∈ lw_all := lw_g (lw_at lw_m6 89 rfl) rfl
theorem q1456 : (Jvm.Cond.static ({ cls := "FourOnOne$Chain", name := "two", desc := "(CJJ)J" } : Jvm.MethodName)) ∈ lw_all := lw_g (lw_at lw_m6 90 rfl) rfl
theorem q1457 : (Jvm.Cond.code ({ cls := "FourOnOne$Chain", name := "two", desc := "(CJJ)J" } : Jvm.MethodName) prog_4_method_4_code (5 : Nat) (Option.some Jvm.ClassFile.FieldType.long)) ∈ lw_all := lw_g (lw_at lw_m6 91 rfl) rfl
theorem q1458 : (Jvm.Cond.methodLink "FourOnOne$Chain" (61 : Nat) ({ cls := "java/lang/Math", name := "floorDiv", desc := "(JJ)J" } : Jvm.MethodName)) ∈ lw_all := lw_g (lw_at lw_m6 92 rfl) rfl
theorem q1461 : (Jvm.Cond.methodLinkNest "FourOnOne$Chain" (55 : Nat) ({ cls := "FourOnOne", name := "held", desc := "(J)J" } : Jvm.MethodName) "FourOnOne") ∈ lw_tbl := lw_at lw_m6 95 rfl
theorem q2642 : (Jvm.Cond.castable "FourOnOne$Chain" "FourOnOne$Value") ∈ lw_tbl := lw_at lw_m11 76 rfl
theorem q2659 : (Jvm.Cond.castable "FourOnOne$Chain" "java/lang/Object") ∈ lw_tbl := lw_at lw_m11 93 rfl
theorem in_X11 : ∀ w ∈ wsX110, w ∈ lw_all := lw_in wsX110 [1032, 1034] (by decide +kernel) (by decide +kernel)

/-! FourOnOne$Pair -/
set_option maxRecDepth 100000
def RX12 : String := "FourOnOne$Pair"
def TX12 : u_T := fun k => match k with
  | 0 => ("FourOnOne$Pair", "most", "Z", true)
  | 1 => ("FourOnOne$Pair", "first", "LFourOnOne$Value;", true)
  | _ => ("FourOnOne$Pair", "second", "LFourOnOne$Value;", true)
def tyX12 : Nat → FieldType := fun k => match k with
  | 0 => .boolean
  | 1 => .object "FourOnOne$Value"
  | _ => .object "FourOnOne$Value"
abbrev wsX120 : List Cond := u_ws RX12 TX12 3
theorem nmX12 : ∀ a, a < 3 → ∀ b, b < 3 → a ≠ b → (TX12 a).2.1 ≠ (TX12 b).2.1 := by decide +kernel
theorem tyX12_ok : ∀ k, k < 3 → parseFieldDescriptor (TX12 k).2.2.1 = some (tyX12 k) := by decide +kernel
abbrev cX12_init : ByteArray := prog_14_method_1_code
def yX12_init : MethodName := ⟨RX12, "<init>", "(ZLFourOnOne$Value;LFourOnOne$Value;)V"⟩
def dkwX12_init_0 : List UInt8 := [42, 183, 0, 1, 42, 27, 181, 0, 7, 42, 44, 181, 0, 13, 42, 45, 181, 0, 17, 177]
abbrev dktX12_init_0 : List UInt8 := dkwX12_init_0 ++ []
theorem dksX12_init_0 : cX12_init.data.toList.drop 0 = dktX12_init_0 := by decide +kernel
theorem dX12_init_0 : decode cX12_init 0 = .ok (.aload_n 0, 1) := dk_42 (dk_at dksX12_init_0 0 rfl rfl)
theorem dX12_init_1 : decode cX12_init 1 = .ok (.invokespecial 1, 3) := dk_183 0 1 (dk_at dksX12_init_0 1 rfl rfl)
theorem dX12_init_4 : decode cX12_init 4 = .ok (.aload_n 0, 1) := dk_42 (dk_at dksX12_init_0 4 rfl rfl)
theorem dX12_init_5 : decode cX12_init 5 = .ok (.iload_n 1, 1) := dk_27 (dk_at dksX12_init_0 5 rfl rfl)
theorem dX12_init_6 : decode cX12_init 6 = .ok (.putfield 7, 3) := dk_181 0 7 (dk_at dksX12_init_0 6 rfl rfl)
theorem dX12_init_9 : decode cX12_init 9 = .ok (.aload_n 0, 1) := dk_42 (dk_at dksX12_init_0 9 rfl rfl)
theorem dX12_init_10 : decode cX12_init 10 = .ok (.aload_n 2, 1) := dk_44 (dk_at dksX12_init_0 10 rfl rfl)
theorem dX12_init_11 : decode cX12_init 11 = .ok (.putfield 13, 3) := dk_181 0 13 (dk_at dksX12_init_0 11 rfl rfl)
theorem dX12_init_14 : decode cX12_init 14 = .ok (.aload_n 0, 1) := dk_42 (dk_at dksX12_init_0 14 rfl rfl)
theorem dX12_init_15 : decode cX12_init 15 = .ok (.aload_n 3, 1) := dk_45 (dk_at dksX12_init_0 15 rfl rfl)
theorem dX12_init_16 : decode cX12_init 16 = .ok (.putfield 17, 3) := dk_181 0 17 (dk_at dksX12_init_0 16 rfl rfl)
theorem dX12_init_19 : decode cX12_init 19 = .ok (.return_, 1) := dk_177 (dk_at dksX12_init_0 19 rfl rfl)
abbrev cX12_at : ByteArray := prog_14_method_2_code
def yX12_at : MethodName := ⟨RX12, "at", "(LFourOnOne$Moment;)J"⟩
def dkwX12_at_1 : List UInt8 := [22, 4, 148, 158, 0, 7, 4, 167, 0, 4, 3, 160, 0, 7, 32, 167, 0, 5, 22, 4, 173]
abbrev dktX12_at_1 : List UInt8 := dkwX12_at_1 ++ []
def dkwX12_at_0 : List UInt8 := [42, 180, 0, 13, 43, 182, 0, 20, 65, 42, 180, 0, 17, 43, 182, 0, 20, 55, 4, 42, 180, 0, 7, 32]
abbrev dktX12_at_0 : List UInt8 := dkwX12_at_0 ++ dktX12_at_1
theorem dksX12_at_0 : cX12_at.data.toList.drop 0 = dktX12_at_0 := by decide +kernel
theorem dksX12_at_1 : cX12_at.data.toList.drop 24 = dktX12_at_1 := dk_seg dksX12_at_0 24 rfl rfl
theorem dX12_at_0 : decode cX12_at 0 = .ok (.aload_n 0, 1) := dk_42 (dk_at dksX12_at_0 0 rfl rfl)
theorem dX12_at_1 : decode cX12_at 1 = .ok (.getfield 13, 3) := dk_180 0 13 (dk_at dksX12_at_0 1 rfl rfl)
theorem dX12_at_4 : decode cX12_at 4 = .ok (.aload_n 1, 1) := dk_43 (dk_at dksX12_at_0 4 rfl rfl)
theorem dX12_at_5 : decode cX12_at 5 = .ok (.invokevirtual 20, 3) := dk_182 0 20 (dk_at dksX12_at_0 5 rfl rfl)
theorem dX12_at_8 : decode cX12_at 8 = .ok (.lstore_n 2, 1) := dk_65 (dk_at dksX12_at_0 8 rfl rfl)
theorem dX12_at_9 : decode cX12_at 9 = .ok (.aload_n 0, 1) := dk_42 (dk_at dksX12_at_0 9 rfl rfl)
theorem dX12_at_10 : decode cX12_at 10 = .ok (.getfield 17, 3) := dk_180 0 17 (dk_at dksX12_at_0 10 rfl rfl)
theorem dX12_at_13 : decode cX12_at 13 = .ok (.aload_n 1, 1) := dk_43 (dk_at dksX12_at_0 13 rfl rfl)
theorem dX12_at_14 : decode cX12_at 14 = .ok (.invokevirtual 20, 3) := dk_182 0 20 (dk_at dksX12_at_0 14 rfl rfl)
theorem dX12_at_17 : decode cX12_at 17 = .ok (.lstore 4, 2) := dk_55 4 (dk_at dksX12_at_0 17 rfl rfl)
theorem dX12_at_19 : decode cX12_at 19 = .ok (.aload_n 0, 1) := dk_42 (dk_at dksX12_at_0 19 rfl rfl)
theorem dX12_at_20 : decode cX12_at 20 = .ok (.getfield 7, 3) := dk_180 0 7 (dk_at dksX12_at_0 20 rfl rfl)
theorem dX12_at_23 : decode cX12_at 23 = .ok (.lload_n 2, 1) := dk_32 (dk_at dksX12_at_0 23 rfl rfl)
theorem dX12_at_24 : decode cX12_at 24 = .ok (.lload 4, 2) := dk_22 4 (dk_at dksX12_at_1 0 rfl rfl)
theorem dX12_at_26 : decode cX12_at 26 = .ok (.lcmp, 1) := dk_148 (dk_at dksX12_at_1 2 rfl rfl)
theorem dX12_at_27 : decode cX12_at 27 = .ok (.ifCond .le 7, 3) := dk_158 0 7 (dk_at dksX12_at_1 3 rfl rfl)
theorem dX12_at_30 : decode cX12_at 30 = .ok (.iconst 1, 1) := dk_4 (dk_at dksX12_at_1 6 rfl rfl)
theorem dX12_at_31 : decode cX12_at 31 = .ok (.goto 4, 3) := dk_167 0 4 (dk_at dksX12_at_1 7 rfl rfl)
theorem dX12_at_34 : decode cX12_at 34 = .ok (.iconst 0, 1) := dk_3 (dk_at dksX12_at_1 10 rfl rfl)
theorem dX12_at_35 : decode cX12_at 35 = .ok (.if_icmp .ne 7, 3) := dk_160 0 7 (dk_at dksX12_at_1 11 rfl rfl)
theorem dX12_at_38 : decode cX12_at 38 = .ok (.lload_n 2, 1) := dk_32 (dk_at dksX12_at_1 14 rfl rfl)
theorem dX12_at_39 : decode cX12_at 39 = .ok (.goto 5, 3) := dk_167 0 5 (dk_at dksX12_at_1 15 rfl rfl)
theorem dX12_at_42 : decode cX12_at 42 = .ok (.lload 4, 2) := dk_22 4 (dk_at dksX12_at_1 18 rfl rfl)
theorem dX12_at_44 : decode cX12_at 44 = .ok (.lreturn, 1) := dk_173 (dk_at dksX12_at_1 20 rfl rfl)
theorem q196 : (Jvm.Cond.initialized "FourOnOne$Pair") ∈ lw_all := lw_g (lw_at lw_m1 30 rfl) rfl
theorem q880 : (Jvm.Cond.selects "FourOnOne$Pair" ({ cls := "java/lang/Object", name := "getClass", desc := "()Ljava/lang/Class;" } : Jvm.MethodName) ({ cls := "java/lang/Object", name := "getClass", desc := "()Ljava/lang/Class;" } : Jvm.MethodName)) ∈ lw_all := lw_g (lw_at lw_m3 234 rfl) rfl
theorem q1058 : (Jvm.Cond.instantiable "FourOnOne$Pair" (3 : Nat)) ∈ lw_all := lw_g (lw_at lw_m4 172 rfl) rfl
theorem q1060 : (Jvm.Cond.instanceMethod ({ cls := "FourOnOne$Pair", name := "<init>", desc := "(ZLFourOnOne$Value;LFourOnOne$Value;)V" } : Jvm.MethodName)) ∈ lw_all := lw_g (lw_at lw_m4 174 rfl) rfl
theorem q1061 : (Jvm.Cond.code ({ cls := "FourOnOne$Pair", name := "<init>", desc := "(ZLFourOnOne$Value;LFourOnOne$Value;)V" } : Jvm.MethodName) prog_14_method_1_code (4 : Nat) (Option.none : Option Jvm.ClassFile.FieldType)) ∈ lw_all := lw_g (lw_at lw_m4 175 rfl) rfl
theorem q1062 : (Jvm.Cond.methodLinkNest "FourOnOne$Pair" (1 : Nat) ({ cls := "FourOnOne$Value", name := "<init>", desc := "()V" } : Jvm.MethodName) "FourOnOne") ∈ lw_tbl := lw_at lw_m4 176 rfl
theorem q1063 : (Jvm.Cond.fieldLink "FourOnOne$Pair" (7 : Nat) "FourOnOne$Pair" "most" "Z") ∈ lw_all := lw_g (lw_at lw_m4 177 rfl) rfl
theorem q1064 : (Jvm.Cond.fieldLink "FourOnOne$Pair" (13 : Nat) "FourOnOne$Pair" "first" "LFourOnOne$Value;") ∈ lw_all := lw_g (lw_at lw_m4 178 rfl) rfl
theorem q1065 : (Jvm.Cond.fieldLink "FourOnOne$Pair" (17 : Nat) "FourOnOne$Pair" "second" "LFourOnOne$Value;") ∈ lw_all := lw_g (lw_at lw_m4 179 rfl) rfl
theorem q1066 : (Jvm.Cond.laysFinal "FourOnOne$Pair" "FourOnOne$Pair" "most" "Z") ∈ lw_all := lw_g (lw_at lw_m4 180 rfl) rfl
theorem q1067 : (Jvm.Cond.soleField "FourOnOne$Pair" "most") ∈ lw_all := lw_g (lw_at lw_m4 181 rfl) rfl
theorem q1068 : (Jvm.Cond.laysFinal "FourOnOne$Pair" "FourOnOne$Pair" "first" "LFourOnOne$Value;") ∈ lw_all := lw_g (lw_at lw_m4 182 rfl) rfl
theorem q1069 : (Jvm.Cond.soleField "FourOnOne$Pair" "first") ∈ lw_all := lw_g (lw_at lw_m4 183 rfl) rfl
theorem q1070 : (Jvm.Cond.laysFinal "FourOnOne$Pair" "FourOnOne$Pair" "second" "LFourOnOne$Value;") ∈ lw_all := lw_g (lw_at lw_m4 184 rfl) rfl
theorem q1071 : (Jvm.Cond.soleField "FourOnOne$Pair" "second") ∈ lw_all := lw_g (lw_at lw_m4 185 rfl) rfl
theorem q1072 : (Jvm.Cond.superclass "FourOnOne$Pair" "FourOnOne$Value") ∈ lw_all := lw_g (lw_at lw_m4 186 rfl) rfl
theorem q1435 : (Jvm.Cond.instanceMethod ({ cls := "FourOnOne$Pair", name := "at", desc := "(LFourOnOne$Moment;)J" } : Jvm.MethodName)) ∈ lw_all := lw_g (lw_at lw_m6 69 rfl) rfl
theorem q1436 : (Jvm.Cond.code ({ cls := "FourOnOne$Pair", name := "at", desc := "(LFourOnOne$Moment;)J" } : Jvm.MethodName) prog_14_method_2_code (6 : Nat) (Option.some Jvm.ClassFile.FieldType.long)) ∈ lw_all := lw_g (lw_at lw_m6 70 rfl) rfl
theorem q1437 : (Jvm.Cond.methodLink "FourOnOne$Pair" (20 : Nat) ({ cls := "FourOnOne$Value", name := "at", desc := "(LFourOnOne$Moment;)J" } : Jvm.MethodName)) ∈ lw_all := lw_g (lw_at lw_m6 71 rfl) rfl
theorem q1464 : (Jvm.Cond.selects "FourOnOne$Pair" ({ cls := "FourOnOne$Value", name := "at", desc := "(LFourOnOne$Moment;)J" } : Jvm.MethodName) ({ cls := "FourOnOne$Pair", name := "at", desc := "(LFourOnOne$Moment;)J" } : Jvm.MethodName)) ∈ lw_all := lw_g (lw_at lw_m6 98 rfl) rfl
theorem q2645 : (Jvm.Cond.castable "FourOnOne$Pair" "FourOnOne$Value") ∈ lw_tbl := lw_at lw_m11 79 rfl
theorem q2661 : (Jvm.Cond.castable "FourOnOne$Pair" "java/lang/Object") ∈ lw_tbl := lw_at lw_m11 95 rfl
theorem in_X12 : ∀ w ∈ wsX120, w ∈ lw_all := lw_in wsX120 [1066, 1068, 1070] (by decide +kernel) (by decide +kernel)

/-! FourOnOne$Fixed -/
set_option maxRecDepth 100000
def RX13 : String := "FourOnOne$Fixed"
def TX13 : u_T := fun k => match k with
  | _ => ("FourOnOne$Fixed", "value", "J", true)
def tyX13 : Nat → FieldType := fun k => match k with
  | _ => .long
abbrev wsX130 : List Cond := u_ws RX13 TX13 1
theorem nmX13 : ∀ a, a < 1 → ∀ b, b < 1 → a ≠ b → (TX13 a).2.1 ≠ (TX13 b).2.1 := by decide +kernel
theorem tyX13_ok : ∀ k, k < 1 → parseFieldDescriptor (TX13 k).2.2.1 = some (tyX13 k) := by decide +kernel
abbrev cX13_init : ByteArray := prog_8_method_1_code
def yX13_init : MethodName := ⟨RX13, "<init>", "(J)V"⟩
def dkwX13_init_0 : List UInt8 := [42, 183, 0, 1, 42, 31, 181, 0, 7, 177]
abbrev dktX13_init_0 : List UInt8 := dkwX13_init_0 ++ []
theorem dksX13_init_0 : cX13_init.data.toList.drop 0 = dktX13_init_0 := by decide +kernel
theorem dX13_init_0 : decode cX13_init 0 = .ok (.aload_n 0, 1) := dk_42 (dk_at dksX13_init_0 0 rfl rfl)
theorem dX13_init_1 : decode cX13_init 1 = .ok (.invokespecial 1, 3) := dk_183 0 1 (dk_at dksX13_init_0 1 rfl rfl)
theorem dX13_init_4 : decode cX13_init 4 = .ok (.aload_n 0, 1) := dk_42 (dk_at dksX13_init_0 4 rfl rfl)
theorem dX13_init_5 : decode cX13_init 5 = .ok (.lload_n 1, 1) := dk_31 (dk_at dksX13_init_0 5 rfl rfl)
theorem dX13_init_6 : decode cX13_init 6 = .ok (.putfield 7, 3) := dk_181 0 7 (dk_at dksX13_init_0 6 rfl rfl)
theorem dX13_init_9 : decode cX13_init 9 = .ok (.return_, 1) := dk_177 (dk_at dksX13_init_0 9 rfl rfl)
abbrev cX13_at : ByteArray := prog_8_method_2_code
def yX13_at : MethodName := ⟨RX13, "at", "(LFourOnOne$Moment;)J"⟩
theorem dX13_at_0 : decode cX13_at 0 = .ok (.aload_n 0, 1) := by decide +kernel
theorem dX13_at_1 : decode cX13_at 1 = .ok (.getfield 7, 3) := by decide +kernel
theorem dX13_at_4 : decode cX13_at 4 = .ok (.lreturn, 1) := by decide +kernel
theorem q197 : (Jvm.Cond.initialized "FourOnOne$Fixed") ∈ lw_all := lw_g (lw_at lw_m1 31 rfl) rfl
theorem q874 : (Jvm.Cond.selects "FourOnOne$Fixed" ({ cls := "java/lang/Object", name := "getClass", desc := "()Ljava/lang/Class;" } : Jvm.MethodName) ({ cls := "java/lang/Object", name := "getClass", desc := "()Ljava/lang/Class;" } : Jvm.MethodName)) ∈ lw_all := lw_g (lw_at lw_m3 228 rfl) rfl
theorem q1074 : (Jvm.Cond.instantiable "FourOnOne$Fixed" (1 : Nat)) ∈ lw_all := lw_g (lw_at lw_m4 188 rfl) rfl
theorem q1076 : (Jvm.Cond.instanceMethod ({ cls := "FourOnOne$Fixed", name := "<init>", desc := "(J)V" } : Jvm.MethodName)) ∈ lw_all := lw_g (lw_at lw_m4 190 rfl) rfl
theorem q1077 : (Jvm.Cond.code ({ cls := "FourOnOne$Fixed", name := "<init>", desc := "(J)V" } : Jvm.MethodName) prog_8_method_1_code (3 : Nat) (Option.none : Option Jvm.ClassFile.FieldType)) ∈ lw_all := lw_g (lw_at lw_m4 191 rfl) rfl
theorem q1078 : (Jvm.Cond.methodLinkNest "FourOnOne$Fixed" (1 : Nat) ({ cls := "FourOnOne$Value", name := "<init>", desc := "()V" } : Jvm.MethodName) "FourOnOne") ∈ lw_tbl := lw_at lw_m4 192 rfl
theorem q1079 : (Jvm.Cond.fieldLink "FourOnOne$Fixed" (7 : Nat) "FourOnOne$Fixed" "value" "J") ∈ lw_all := lw_g (lw_at lw_m4 193 rfl) rfl
theorem q1080 : (Jvm.Cond.laysFinal "FourOnOne$Fixed" "FourOnOne$Fixed" "value" "J") ∈ lw_all := lw_g (lw_at lw_m4 194 rfl) rfl
theorem q1081 : (Jvm.Cond.soleField "FourOnOne$Fixed" "value") ∈ lw_all := lw_g (lw_at lw_m4 195 rfl) rfl
theorem q1082 : (Jvm.Cond.superclass "FourOnOne$Fixed" "FourOnOne$Value") ∈ lw_all := lw_g (lw_at lw_m4 196 rfl) rfl
theorem q1430 : (Jvm.Cond.instanceMethod ({ cls := "FourOnOne$Fixed", name := "at", desc := "(LFourOnOne$Moment;)J" } : Jvm.MethodName)) ∈ lw_all := lw_g (lw_at lw_m6 64 rfl) rfl
theorem q1431 : (Jvm.Cond.code ({ cls := "FourOnOne$Fixed", name := "at", desc := "(LFourOnOne$Moment;)J" } : Jvm.MethodName) prog_8_method_2_code (2 : Nat) (Option.some Jvm.ClassFile.FieldType.long)) ∈ lw_all := lw_g (lw_at lw_m6 65 rfl) rfl
theorem q1462 : (Jvm.Cond.selects "FourOnOne$Fixed" ({ cls := "FourOnOne$Value", name := "at", desc := "(LFourOnOne$Moment;)J" } : Jvm.MethodName) ({ cls := "FourOnOne$Fixed", name := "at", desc := "(LFourOnOne$Moment;)J" } : Jvm.MethodName)) ∈ lw_all := lw_g (lw_at lw_m6 96 rfl) rfl
theorem q2643 : (Jvm.Cond.castable "FourOnOne$Fixed" "FourOnOne$Value") ∈ lw_tbl := lw_at lw_m11 77 rfl
theorem q2662 : (Jvm.Cond.castable "FourOnOne$Fixed" "java/lang/Object") ∈ lw_tbl := lw_at lw_m11 96 rfl
theorem in_X13 : ∀ w ∈ wsX130, w ∈ lw_all := lw_in wsX130 [1080] (by decide +kernel) (by decide +kernel)

/-! FourOnOne$Asked -/
set_option maxRecDepth 100000
def RX14 : String := "FourOnOne$Asked"
def TX14 : u_T := fun k => match k with
  | _ => ("FourOnOne$Asked", "what", "I", true)
def tyX14 : Nat → FieldType := fun k => match k with
  | _ => .int
abbrev wsX140 : List Cond := u_ws RX14 TX14 1
theorem nmX14 : ∀ a, a < 1 → ∀ b, b < 1 → a ≠ b → (TX14 a).2.1 ≠ (TX14 b).2.1 := by decide +kernel
theorem tyX14_ok : ∀ k, k < 1 → parseFieldDescriptor (TX14 k).2.2.1 = some (tyX14 k) := by decide +kernel
abbrev cX14_init : ByteArray := prog_3_method_1_code
def yX14_init : MethodName := ⟨RX14, "<init>", "(I)V"⟩
def dkwX14_init_0 : List UInt8 := [42, 183, 0, 1, 42, 27, 181, 0, 7, 177]
abbrev dktX14_init_0 : List UInt8 := dkwX14_init_0 ++ []
theorem dksX14_init_0 : cX14_init.data.toList.drop 0 = dktX14_init_0 := by decide +kernel
theorem dX14_init_0 : decode cX14_init 0 = .ok (.aload_n 0, 1) := dk_42 (dk_at dksX14_init_0 0 rfl rfl)
theorem dX14_init_1 : decode cX14_init 1 = .ok (.invokespecial 1, 3) := dk_183 0 1 (dk_at dksX14_init_0 1 rfl rfl)
theorem dX14_init_4 : decode cX14_init 4 = .ok (.aload_n 0, 1) := dk_42 (dk_at dksX14_init_0 4 rfl rfl)
theorem dX14_init_5 : decode cX14_init 5 = .ok (.iload_n 1, 1) := dk_27 (dk_at dksX14_init_0 5 rfl rfl)
theorem dX14_init_6 : decode cX14_init 6 = .ok (.putfield 7, 3) := dk_181 0 7 (dk_at dksX14_init_0 6 rfl rfl)
theorem dX14_init_9 : decode cX14_init 9 = .ok (.return_, 1) := dk_177 (dk_at dksX14_init_0 9 rfl rfl)
abbrev cX14_at : ByteArray := prog_3_method_2_code
def yX14_at : MethodName := ⟨RX14, "at", "(LFourOnOne$Moment;)J"⟩
def dkwX14_at_0 : List UInt8 := [43, 180, 0, 13, 42, 180, 0, 7, 47, 184, 0, 19, 173]
abbrev dktX14_at_0 : List UInt8 := dkwX14_at_0 ++ []
theorem dksX14_at_0 : cX14_at.data.toList.drop 0 = dktX14_at_0 := by decide +kernel
theorem dX14_at_0 : decode cX14_at 0 = .ok (.aload_n 1, 1) := dk_43 (dk_at dksX14_at_0 0 rfl rfl)
theorem dX14_at_1 : decode cX14_at 1 = .ok (.getfield 13, 3) := dk_180 0 13 (dk_at dksX14_at_0 1 rfl rfl)
theorem dX14_at_4 : decode cX14_at 4 = .ok (.aload_n 0, 1) := dk_42 (dk_at dksX14_at_0 4 rfl rfl)
theorem dX14_at_5 : decode cX14_at 5 = .ok (.getfield 7, 3) := dk_180 0 7 (dk_at dksX14_at_0 5 rfl rfl)
theorem dX14_at_8 : decode cX14_at 8 = .ok (.laload, 1) := dk_47 (dk_at dksX14_at_0 8 rfl rfl)
theorem dX14_at_9 : decode cX14_at 9 = .ok (.invokestatic 19, 3) := dk_184 0 19 (dk_at dksX14_at_0 9 rfl rfl)
theorem dX14_at_12 : decode cX14_at 12 = .ok (.lreturn, 1) := dk_173 (dk_at dksX14_at_0 12 rfl rfl)
theorem q198 : (Jvm.Cond.initialized "FourOnOne$Asked") ∈ lw_all := lw_g (lw_at lw_m1 32 rfl) rfl
theorem q414 : (Jvm.Cond.fieldLinkNest "FourOnOne$Asked" (13 : Nat) "FourOnOne$Moment" "of" "[J" "FourOnOne") ∈ lw_tbl := lw_at lw_m2 8 rfl
theorem q869 : (Jvm.Cond.selects "FourOnOne$Asked" ({ cls := "java/lang/Object", name := "getClass", desc := "()Ljava/lang/Class;" } : Jvm.MethodName) ({ cls := "java/lang/Object", name := "getClass", desc := "()Ljava/lang/Class;" } : Jvm.MethodName)) ∈ lw_all := lw_g (lw_at lw_m3 223 rfl) rfl
theorem q1086 : (Jvm.Cond.instantiable "FourOnOne$Asked" (1 : Nat)) ∈ lw_all := lw_g (lw_at lw_m4 200 rfl) rfl
theorem q1088 : (Jvm.Cond.instanceMethod ({ cls := "FourOnOne$Asked", name := "<init>", desc := "(I)V" } : Jvm.MethodName)) ∈ lw_all := lw_g (lw_at lw_m4 202 rfl) rfl
theorem q1089 : (Jvm.Cond.code ({ cls := "FourOnOne$Asked", name := "<init>", desc := "(I)V" } : Jvm.MethodName) prog_3_method_1_code (2 : Nat) (Option.none : Option Jvm.ClassFile.FieldType)) ∈ lw_all := lw_g (lw_at lw_m4 203 rfl) rfl
theorem q1090 : (Jvm.Cond.methodLinkNest "FourOnOne$Asked" (1 : Nat) ({ cls := "FourOnOne$Value", name := "<init>", desc := "()V" } : Jvm.MethodName) "FourOnOne") ∈ lw_tbl := lw_at lw_m4 204 rfl
theorem q1091 : (Jvm.Cond.fieldLink "FourOnOne$Asked" (7 : Nat) "FourOnOne$Asked" "what" "I") ∈ lw_all := lw_g (lw_at lw_m4 205 rfl) rfl
theorem q1092 : (Jvm.Cond.laysFinal "FourOnOne$Asked" "FourOnOne$Asked" "what" "I") ∈ lw_all := lw_g (lw_at lw_m4 206 rfl) rfl
theorem q1093 : (Jvm.Cond.soleField "FourOnOne$Asked" "what") ∈ lw_all := lw_g (lw_at lw_m4 207 rfl) rfl
theorem q1094 : (Jvm.Cond.superclass "FourOnOne$Asked" "FourOnOne$Value") ∈ lw_all := lw_g (lw_at lw_m4 208 rfl) rfl
theorem q1409 : (Jvm.Cond.selects "FourOnOne$Asked" ({ cls := "FourOnOne$Value", name := "at", desc := "(LFourOnOne$Moment;)J" } : Jvm.MethodName) ({ cls := "FourOnOne$Asked", name := "at", desc := "(LFourOnOne$Moment;)J" } : Jvm.MethodName)) ∈ lw_all := lw_g (lw_at lw_m6 43 rfl) rfl
theorem q1410 : (Jvm.Cond.instanceMethod ({ cls := "FourOnOne$Asked", name := "at", desc := "(LFourOnOne$Moment;)J" } : Jvm.MethodName)) ∈ lw_all := lw_g (lw_at lw_m6 44 rfl) rfl
theorem q1411 : (Jvm.Cond.code ({ cls := "FourOnOne$Asked", name := "at", desc := "(LFourOnOne$Moment;)J" } : Jvm.MethodName) prog_3_method_2_code (2 : Nat) (Option.some Jvm.ClassFile.FieldType.long)) ∈ lw_all := lw_g (lw_at lw_m6 45 rfl) rfl
theorem q1412 : (Jvm.Cond.methodLinkNest "FourOnOne$Asked" (19 : Nat) ({ cls := "FourOnOne", name := "held", desc := "(J)J" } : Jvm.MethodName) "FourOnOne") ∈ lw_tbl := lw_at lw_m6 46 rfl
theorem q2641 : (Jvm.Cond.castable "FourOnOne$Asked" "FourOnOne$Value") ∈ lw_tbl := lw_at lw_m11 75 rfl
theorem q2663 : (Jvm.Cond.castable "FourOnOne$Asked" "java/lang/Object") ∈ lw_tbl := lw_at lw_m11 97 rfl
theorem in_X14 : ∀ w ∈ wsX140, w ∈ lw_all := lw_in wsX140 [1092] (by decide +kernel) (by decide +kernel)

/-! FourOnOne$Looked -/
set_option maxRecDepth 100000
def RX15 : String := "FourOnOne$Looked"
def TX15 : u_T := fun k => match k with
  | 0 => ("FourOnOne$Looked", "what", "I", true)
  | 1 => ("FourOnOne$Looked", "of", "LFourOnOne$Value;", true)
  | _ => ("FourOnOne$Looked", "this$0", "LFourOnOne;", true)
def tyX15 : Nat → FieldType := fun k => match k with
  | 0 => .int
  | 1 => .object "FourOnOne$Value"
  | _ => .object "FourOnOne"
abbrev wsX150 : List Cond := u_ws RX15 TX15 3
theorem nmX15 : ∀ a, a < 3 → ∀ b, b < 3 → a ≠ b → (TX15 a).2.1 ≠ (TX15 b).2.1 := by decide +kernel
theorem tyX15_ok : ∀ k, k < 3 → parseFieldDescriptor (TX15 k).2.2.1 = some (tyX15 k) := by decide +kernel
abbrev cX15_init : ByteArray := prog_10_method_1_code
def yX15_init : MethodName := ⟨RX15, "<init>", "(LFourOnOne;ILFourOnOne$Value;)V"⟩
def dkwX15_init_0 : List UInt8 := [42, 43, 181, 0, 1, 42, 183, 0, 7, 42, 28, 181, 0, 13, 42, 45, 181, 0, 17, 177]
abbrev dktX15_init_0 : List UInt8 := dkwX15_init_0 ++ []
theorem dksX15_init_0 : cX15_init.data.toList.drop 0 = dktX15_init_0 := by decide +kernel
theorem dX15_init_0 : decode cX15_init 0 = .ok (.aload_n 0, 1) := dk_42 (dk_at dksX15_init_0 0 rfl rfl)
theorem dX15_init_1 : decode cX15_init 1 = .ok (.aload_n 1, 1) := dk_43 (dk_at dksX15_init_0 1 rfl rfl)
theorem dX15_init_2 : decode cX15_init 2 = .ok (.putfield 1, 3) := dk_181 0 1 (dk_at dksX15_init_0 2 rfl rfl)
theorem dX15_init_5 : decode cX15_init 5 = .ok (.aload_n 0, 1) := dk_42 (dk_at dksX15_init_0 5 rfl rfl)
theorem dX15_init_6 : decode cX15_init 6 = .ok (.invokespecial 7, 3) := dk_183 0 7 (dk_at dksX15_init_0 6 rfl rfl)
theorem dX15_init_9 : decode cX15_init 9 = .ok (.aload_n 0, 1) := dk_42 (dk_at dksX15_init_0 9 rfl rfl)
theorem dX15_init_10 : decode cX15_init 10 = .ok (.iload_n 2, 1) := dk_28 (dk_at dksX15_init_0 10 rfl rfl)
theorem dX15_init_11 : decode cX15_init 11 = .ok (.putfield 13, 3) := dk_181 0 13 (dk_at dksX15_init_0 11 rfl rfl)
theorem dX15_init_14 : decode cX15_init 14 = .ok (.aload_n 0, 1) := dk_42 (dk_at dksX15_init_0 14 rfl rfl)
theorem dX15_init_15 : decode cX15_init 15 = .ok (.aload_n 3, 1) := dk_45 (dk_at dksX15_init_0 15 rfl rfl)
theorem dX15_init_16 : decode cX15_init 16 = .ok (.putfield 17, 3) := dk_181 0 17 (dk_at dksX15_init_0 16 rfl rfl)
theorem dX15_init_19 : decode cX15_init 19 = .ok (.return_, 1) := dk_177 (dk_at dksX15_init_0 19 rfl rfl)
abbrev cX15_at : ByteArray := prog_10_method_2_code
def yX15_at : MethodName := ⟨RX15, "at", "(LFourOnOne$Moment;)J"⟩
def dkwX15_at_0 : List UInt8 := [42, 180, 0, 1, 42, 180, 0, 13, 42, 180, 0, 17, 43, 182, 0, 21, 182, 0, 25, 184, 0, 31, 173]
abbrev dktX15_at_0 : List UInt8 := dkwX15_at_0 ++ []
theorem dksX15_at_0 : cX15_at.data.toList.drop 0 = dktX15_at_0 := by decide +kernel
theorem dX15_at_0 : decode cX15_at 0 = .ok (.aload_n 0, 1) := dk_42 (dk_at dksX15_at_0 0 rfl rfl)
theorem dX15_at_1 : decode cX15_at 1 = .ok (.getfield 1, 3) := dk_180 0 1 (dk_at dksX15_at_0 1 rfl rfl)
theorem dX15_at_4 : decode cX15_at 4 = .ok (.aload_n 0, 1) := dk_42 (dk_at dksX15_at_0 4 rfl rfl)
theorem dX15_at_5 : decode cX15_at 5 = .ok (.getfield 13, 3) := dk_180 0 13 (dk_at dksX15_at_0 5 rfl rfl)
theorem dX15_at_8 : decode cX15_at 8 = .ok (.aload_n 0, 1) := dk_42 (dk_at dksX15_at_0 8 rfl rfl)
theorem dX15_at_9 : decode cX15_at 9 = .ok (.getfield 17, 3) := dk_180 0 17 (dk_at dksX15_at_0 9 rfl rfl)
theorem dX15_at_12 : decode cX15_at 12 = .ok (.aload_n 1, 1) := dk_43 (dk_at dksX15_at_0 12 rfl rfl)
theorem dX15_at_13 : decode cX15_at 13 = .ok (.invokevirtual 21, 3) := dk_182 0 21 (dk_at dksX15_at_0 13 rfl rfl)
theorem dX15_at_16 : decode cX15_at 16 = .ok (.invokevirtual 25, 3) := dk_182 0 25 (dk_at dksX15_at_0 16 rfl rfl)
theorem dX15_at_19 : decode cX15_at 19 = .ok (.invokestatic 31, 3) := dk_184 0 31 (dk_at dksX15_at_0 19 rfl rfl)
theorem dX15_at_22 : decode cX15_at 22 = .ok (.lreturn, 1) := dk_173 (dk_at dksX15_at_0 22 rfl rfl)
theorem q199 : (Jvm.Cond.initialized "FourOnOne$Looked") ∈ lw_all := lw_g (lw_at lw_m1 33 rfl) rfl
theorem q876 : (Jvm.Cond.selects "FourOnOne$Looked" ({ cls := "java/lang/Object", name := "getClass", desc := "()Ljava/lang/Class;" } : Jvm.MethodName) ({ cls := "java/lang/Object", name := "getClass", desc := "()Ljava/lang/Class;" } : Jvm.MethodName)) ∈ lw_all := lw_g (lw_at lw_m3 230 rfl) rfl
theorem q1102 : (Jvm.Cond.instantiable "FourOnOne$Looked" (3 : Nat)) ∈ lw_all := lw_g (lw_at lw_m4 216 rfl) rfl
theorem q1104 : (Jvm.Cond.instanceMethod ({ cls := "FourOnOne$Looked", name := "<init>", desc := "(LFourOnOne;ILFourOnOne$Value;)V" } : Jvm.MethodName)) ∈ lw_all := lw_g (lw_at lw_m4 218 rfl) rfl
theorem q1105 : (Jvm.Cond.code ({ cls := "FourOnOne$Looked", name := "<init>", desc := "(LFourOnOne;ILFourOnOne$Value;)V" } : Jvm.MethodName) prog_10_method_1_code (4 : Nat) (Option.none : Option Jvm.ClassFile.FieldType)) ∈ lw_all := lw_g (lw_at lw_m4 219 rfl) rfl
theorem q1106 : (Jvm.Cond.methodLinkNest "FourOnOne$Looked" (7 : Nat) ({ cls := "FourOnOne$Value", name := "<init>", desc := "()V" } : Jvm.MethodName) "FourOnOne") ∈ lw_tbl := lw_at lw_m4 220 rfl
theorem q1107 : (Jvm.Cond.fieldLink "FourOnOne$Looked" (13 : Nat) "FourOnOne$Looked" "what" "I") ∈ lw_all := lw_g (lw_at lw_m4 221 rfl) rfl
theorem q1108 : (Jvm.Cond.fieldLink "FourOnOne$Looked" (17 : Nat) "FourOnOne$Looked" "of" "LFourOnOne$Value;") ∈ lw_all := lw_g (lw_at lw_m4 222 rfl) rfl
theorem q1109 : (Jvm.Cond.fieldLink "FourOnOne$Looked" (1 : Nat) "FourOnOne$Looked" "this$0" "LFourOnOne;") ∈ lw_all := lw_g (lw_at lw_m4 223 rfl) rfl
theorem q1110 : (Jvm.Cond.laysFinal "FourOnOne$Looked" "FourOnOne$Looked" "what" "I") ∈ lw_all := lw_g (lw_at lw_m4 224 rfl) rfl
theorem q1111 : (Jvm.Cond.soleField "FourOnOne$Looked" "what") ∈ lw_all := lw_g (lw_at lw_m4 225 rfl) rfl
theorem q1112 : (Jvm.Cond.laysFinal "FourOnOne$Looked" "FourOnOne$Looked" "of" "LFourOnOne$Value;") ∈ lw_all := lw_g (lw_at lw_m4 226 rfl) rfl
theorem q1113 : (Jvm.Cond.soleField "FourOnOne$Looked" "of") ∈ lw_all := lw_g (lw_at lw_m4 227 rfl) rfl
theorem q1114 : (Jvm.Cond.laysFinal "FourOnOne$Looked" "FourOnOne$Looked" "this$0" "LFourOnOne;") ∈ lw_all := lw_g (lw_at lw_m4 228 rfl) rfl
theorem q1115 : (Jvm.Cond.soleField "FourOnOne$Looked" "this$0") ∈ lw_all := lw_g (lw_at lw_m4 229 rfl) rfl
theorem q1116 : (Jvm.Cond.superclass "FourOnOne$Looked" "FourOnOne$Value") ∈ lw_all := lw_g (lw_at lw_m4 230 rfl) rfl
theorem q1432 : (Jvm.Cond.instanceMethod ({ cls := "FourOnOne$Looked", name := "at", desc := "(LFourOnOne$Moment;)J" } : Jvm.MethodName)) ∈ lw_all := lw_g (lw_at lw_m6 66 rfl) rfl
theorem q1433 : (Jvm.Cond.code ({ cls := "FourOnOne$Looked", name := "at", desc := "(LFourOnOne$Moment;)J" } : Jvm.MethodName) prog_10_method_2_code (2 : Nat) (Option.some Jvm.ClassFile.FieldType.long)) ∈ lw_all := lw_g (lw_at lw_m6 67 rfl) rfl
theorem q1434 : (Jvm.Cond.methodLink "FourOnOne$Looked" (21 : Nat) ({ cls := "FourOnOne$Value", name := "at", desc := "(LFourOnOne$Moment;)J" } : Jvm.MethodName)) ∈ lw_all := lw_g (lw_at lw_m6 68 rfl) rfl
theorem q1438 : (Jvm.Cond.methodLinkNest "FourOnOne$Looked" (25 : Nat) ({ cls := "FourOnOne", name := "looked", desc := "(IJ)J" } : Jvm.MethodName) "FourOnOne") ∈ lw_tbl := lw_at lw_m6 72 rfl
theorem q1442 : (Jvm.Cond.methodLinkNest "FourOnOne$Looked" (31 : Nat) ({ cls := "FourOnOne", name := "held", desc := "(J)J" } : Jvm.MethodName) "FourOnOne") ∈ lw_tbl := lw_at lw_m6 76 rfl
theorem q1463 : (Jvm.Cond.selects "FourOnOne$Looked" ({ cls := "FourOnOne$Value", name := "at", desc := "(LFourOnOne$Moment;)J" } : Jvm.MethodName) ({ cls := "FourOnOne$Looked", name := "at", desc := "(LFourOnOne$Moment;)J" } : Jvm.MethodName)) ∈ lw_all := lw_g (lw_at lw_m6 97 rfl) rfl
theorem q2644 : (Jvm.Cond.castable "FourOnOne$Looked" "FourOnOne$Value") ∈ lw_tbl := lw_at lw_m11 78 rfl
theorem q2664 : (Jvm.Cond.castable "FourOnOne$Looked" "java/lang/Object") ∈ lw_tbl := lw_at lw_m11 98 rfl
theorem in_X15 : ∀ w ∈ wsX150, w ∈ lw_all := lw_in wsX150 [1110, 1112, 1114] (by decide +kernel) (by decide +kernel)

/-! FourOnOne$Test -/
set_option maxRecDepth 100000
def RX16 : String := "FourOnOne$Test"
abbrev cX16_init : ByteArray := prog_19_method_1_code
def yX16_init : MethodName := ⟨RX16, "<init>", "()V"⟩
theorem dX16_init_0 : decode cX16_init 0 = .ok (.aload_n 0, 1) := by decide +kernel
theorem dX16_init_1 : decode cX16_init 1 = .ok (.invokespecial 1, 3) := by decide +kernel
theorem dX16_init_4 : decode cX16_init 4 = .ok (.return_, 1) := by decide +kernel
theorem q200 : (Jvm.Cond.initialized "FourOnOne$Test") ∈ lw_all := lw_g (lw_at lw_m1 34 rfl) rfl
theorem q1194 : (Jvm.Cond.instanceMethod ({ cls := "FourOnOne$Test", name := "<init>", desc := "()V" } : Jvm.MethodName)) ∈ lw_all := lw_g (lw_at lw_m5 68 rfl) rfl
theorem q1195 : (Jvm.Cond.code ({ cls := "FourOnOne$Test", name := "<init>", desc := "()V" } : Jvm.MethodName) prog_19_method_1_code (1 : Nat) (Option.none : Option Jvm.ClassFile.FieldType)) ∈ lw_all := lw_g (lw_at lw_m5 69 rfl) rfl
theorem q1196 : (Jvm.Cond.methodLink "FourOnOne$Test" (1 : Nat) ({ cls := "java/lang/Object", name := "<init>", desc := "()V" } : Jvm.MethodName)) ∈ lw_all := lw_g (lw_at lw_m5 70 rfl) rfl
theorem q1387 : (Jvm.Cond.declares ({ cls := "FourOnOne$Test", name := "holds", desc := "(LFourOnOne$Moment;)Z" } : Jvm.MethodName)) ∈ lw_tbl := lw_at lw_m6 21 rfl
theorem q1388 : (Jvm.Cond.sameMethod "FourOnOne$Test" "FourOnOne$Test" "holds" "(LFourOnOne$Moment;)Z") ∈ lw_all := lw_g (lw_at lw_m6 22 rfl) rfl

/-! FourOnOne$Facts -/
set_option maxRecDepth 100000
def RX17 : String := "FourOnOne$Facts"
def TX17 : u_T := fun k => match k with
  | 0 => ("FourOnOne$Facts", "tests", "Ljava/util/List;", true)
  | _ => ("FourOnOne$Facts", "all", "Z", true)
def tyX17 : Nat → FieldType := fun k => match k with
  | 0 => .object "java/util/List"
  | _ => .boolean
abbrev wsX170 : List Cond := u_ws RX17 TX17 2
theorem nmX17 : ∀ a, a < 2 → ∀ b, b < 2 → a ≠ b → (TX17 a).2.1 ≠ (TX17 b).2.1 := by decide +kernel
theorem tyX17_ok : ∀ k, k < 2 → parseFieldDescriptor (TX17 k).2.2.1 = some (tyX17 k) := by decide +kernel
abbrev cX17_init : ByteArray := prog_5_method_1_code
def yX17_init : MethodName := ⟨RX17, "<init>", "(Z)V"⟩
def dkwX17_init_0 : List UInt8 := [42, 183, 0, 1, 42, 187, 0, 7, 89, 5, 183, 0, 9, 181, 0, 12, 42, 27, 181, 0, 18, 177]
abbrev dktX17_init_0 : List UInt8 := dkwX17_init_0 ++ []
theorem dksX17_init_0 : cX17_init.data.toList.drop 0 = dktX17_init_0 := by decide +kernel
theorem dX17_init_0 : decode cX17_init 0 = .ok (.aload_n 0, 1) := dk_42 (dk_at dksX17_init_0 0 rfl rfl)
theorem dX17_init_1 : decode cX17_init 1 = .ok (.invokespecial 1, 3) := dk_183 0 1 (dk_at dksX17_init_0 1 rfl rfl)
theorem dX17_init_4 : decode cX17_init 4 = .ok (.aload_n 0, 1) := dk_42 (dk_at dksX17_init_0 4 rfl rfl)
theorem dX17_init_5 : decode cX17_init 5 = .ok (.new 7, 3) := dk_187 0 7 (dk_at dksX17_init_0 5 rfl rfl)
theorem dX17_init_8 : decode cX17_init 8 = .ok (.dup, 1) := dk_89 (dk_at dksX17_init_0 8 rfl rfl)
theorem dX17_init_9 : decode cX17_init 9 = .ok (.iconst 2, 1) := dk_5 (dk_at dksX17_init_0 9 rfl rfl)
theorem dX17_init_10 : decode cX17_init 10 = .ok (.invokespecial 9, 3) := dk_183 0 9 (dk_at dksX17_init_0 10 rfl rfl)
theorem dX17_init_13 : decode cX17_init 13 = .ok (.putfield 12, 3) := dk_181 0 12 (dk_at dksX17_init_0 13 rfl rfl)
theorem dX17_init_16 : decode cX17_init 16 = .ok (.aload_n 0, 1) := dk_42 (dk_at dksX17_init_0 16 rfl rfl)
theorem dX17_init_17 : decode cX17_init 17 = .ok (.iload_n 1, 1) := dk_27 (dk_at dksX17_init_0 17 rfl rfl)
theorem dX17_init_18 : decode cX17_init 18 = .ok (.putfield 18, 3) := dk_181 0 18 (dk_at dksX17_init_0 18 rfl rfl)
theorem dX17_init_21 : decode cX17_init 21 = .ok (.return_, 1) := dk_177 (dk_at dksX17_init_0 21 rfl rfl)
abbrev cX17_holds : ByteArray := prog_5_method_2_code
def yX17_holds : MethodName := ⟨RX17, "holds", "(LFourOnOne$Moment;)Z"⟩
def dkwX17_holds_2 : List UInt8 := [154, 0, 7, 4, 167, 0, 4, 3, 172, 132, 2, 1, 167, 255, 203, 42, 180, 0, 18, 172]
abbrev dktX17_holds_2 : List UInt8 := dkwX17_holds_2 ++ []
def dkwX17_holds_1 : List UInt8 := [185, 0, 28, 2, 0, 192, 0, 2, 43, 182, 0, 32, 42, 180, 0, 18, 159, 0, 16, 42, 180, 0, 18]
abbrev dktX17_holds_1 : List UInt8 := dkwX17_holds_1 ++ dktX17_holds_2
def dkwX17_holds_0 : List UInt8 := [3, 61, 28, 42, 180, 0, 12, 185, 0, 22, 1, 0, 162, 0, 46, 42, 180, 0, 12, 28]
abbrev dktX17_holds_0 : List UInt8 := dkwX17_holds_0 ++ dktX17_holds_1
theorem dksX17_holds_0 : cX17_holds.data.toList.drop 0 = dktX17_holds_0 := by decide +kernel
theorem dksX17_holds_1 : cX17_holds.data.toList.drop 20 = dktX17_holds_1 := dk_seg dksX17_holds_0 20 rfl rfl
theorem dksX17_holds_2 : cX17_holds.data.toList.drop 43 = dktX17_holds_2 := dk_seg dksX17_holds_1 23 rfl rfl
theorem dX17_holds_0 : decode cX17_holds 0 = .ok (.iconst 0, 1) := dk_3 (dk_at dksX17_holds_0 0 rfl rfl)
theorem dX17_holds_1 : decode cX17_holds 1 = .ok (.istore_n 2, 1) := dk_61 (dk_at dksX17_holds_0 1 rfl rfl)
theorem dX17_holds_2 : decode cX17_holds 2 = .ok (.iload_n 2, 1) := dk_28 (dk_at dksX17_holds_0 2 rfl rfl)
theorem dX17_holds_3 : decode cX17_holds 3 = .ok (.aload_n 0, 1) := dk_42 (dk_at dksX17_holds_0 3 rfl rfl)
theorem dX17_holds_4 : decode cX17_holds 4 = .ok (.getfield 12, 3) := dk_180 0 12 (dk_at dksX17_holds_0 4 rfl rfl)
theorem dX17_holds_7 : decode cX17_holds 7 = .ok (.invokeinterface 22 1, 5) := by decide +kernel
theorem dX17_holds_12 : decode cX17_holds 12 = .ok (.if_icmp .ge 46, 3) := dk_162 0 46 (dk_at dksX17_holds_0 12 rfl rfl)
theorem dX17_holds_15 : decode cX17_holds 15 = .ok (.aload_n 0, 1) := dk_42 (dk_at dksX17_holds_0 15 rfl rfl)
theorem dX17_holds_16 : decode cX17_holds 16 = .ok (.getfield 12, 3) := dk_180 0 12 (dk_at dksX17_holds_0 16 rfl rfl)
theorem dX17_holds_19 : decode cX17_holds 19 = .ok (.iload_n 2, 1) := dk_28 (dk_at dksX17_holds_0 19 rfl rfl)
theorem dX17_holds_20 : decode cX17_holds 20 = .ok (.invokeinterface 28 2, 5) := by decide +kernel
theorem dX17_holds_25 : decode cX17_holds 25 = .ok (.checkcast 2, 3) := dk_192 0 2 (dk_at dksX17_holds_1 5 rfl rfl)
theorem dX17_holds_28 : decode cX17_holds 28 = .ok (.aload_n 1, 1) := dk_43 (dk_at dksX17_holds_1 8 rfl rfl)
theorem dX17_holds_29 : decode cX17_holds 29 = .ok (.invokevirtual 32, 3) := dk_182 0 32 (dk_at dksX17_holds_1 9 rfl rfl)
theorem dX17_holds_32 : decode cX17_holds 32 = .ok (.aload_n 0, 1) := dk_42 (dk_at dksX17_holds_1 12 rfl rfl)
theorem dX17_holds_33 : decode cX17_holds 33 = .ok (.getfield 18, 3) := dk_180 0 18 (dk_at dksX17_holds_1 13 rfl rfl)
theorem dX17_holds_36 : decode cX17_holds 36 = .ok (.if_icmp .eq 16, 3) := dk_159 0 16 (dk_at dksX17_holds_1 16 rfl rfl)
theorem dX17_holds_39 : decode cX17_holds 39 = .ok (.aload_n 0, 1) := dk_42 (dk_at dksX17_holds_1 19 rfl rfl)
theorem dX17_holds_40 : decode cX17_holds 40 = .ok (.getfield 18, 3) := dk_180 0 18 (dk_at dksX17_holds_1 20 rfl rfl)
theorem dX17_holds_43 : decode cX17_holds 43 = .ok (.ifCond .ne 7, 3) := dk_154 0 7 (dk_at dksX17_holds_2 0 rfl rfl)
theorem dX17_holds_46 : decode cX17_holds 46 = .ok (.iconst 1, 1) := dk_4 (dk_at dksX17_holds_2 3 rfl rfl)
theorem dX17_holds_47 : decode cX17_holds 47 = .ok (.goto 4, 3) := dk_167 0 4 (dk_at dksX17_holds_2 4 rfl rfl)
theorem dX17_holds_50 : decode cX17_holds 50 = .ok (.iconst 0, 1) := dk_3 (dk_at dksX17_holds_2 7 rfl rfl)
theorem dX17_holds_51 : decode cX17_holds 51 = .ok (.ireturn, 1) := dk_172 (dk_at dksX17_holds_2 8 rfl rfl)
theorem dX17_holds_52 : decode cX17_holds 52 = .ok (.iinc 2 1, 3) := dk_132 2 1 (dk_at dksX17_holds_2 9 rfl rfl)
theorem dX17_holds_55 : decode cX17_holds 55 = .ok (.goto (-53), 3) := dk_167 255 203 (dk_at dksX17_holds_2 12 rfl rfl)
theorem dX17_holds_58 : decode cX17_holds 58 = .ok (.aload_n 0, 1) := dk_42 (dk_at dksX17_holds_2 15 rfl rfl)
theorem dX17_holds_59 : decode cX17_holds 59 = .ok (.getfield 18, 3) := dk_180 0 18 (dk_at dksX17_holds_2 16 rfl rfl)
theorem dX17_holds_62 : decode cX17_holds 62 = .ok (.ireturn, 1) := dk_172 (dk_at dksX17_holds_2 19 rfl rfl)
theorem q201 : (Jvm.Cond.initialized "FourOnOne$Facts") ∈ lw_all := lw_g (lw_at lw_m1 35 rfl) rfl
theorem q871 : (Jvm.Cond.selects "FourOnOne$Facts" ({ cls := "java/lang/Object", name := "getClass", desc := "()Ljava/lang/Class;" } : Jvm.MethodName) ({ cls := "java/lang/Object", name := "getClass", desc := "()Ljava/lang/Class;" } : Jvm.MethodName)) ∈ lw_all := lw_g (lw_at lw_m3 225 rfl) rfl
theorem q1189 : (Jvm.Cond.instantiable "FourOnOne$Facts" (2 : Nat)) ∈ lw_all := lw_g (lw_at lw_m5 63 rfl) rfl
theorem q1191 : (Jvm.Cond.instanceMethod ({ cls := "FourOnOne$Facts", name := "<init>", desc := "(Z)V" } : Jvm.MethodName)) ∈ lw_all := lw_g (lw_at lw_m5 65 rfl) rfl
theorem q1192 : (Jvm.Cond.code ({ cls := "FourOnOne$Facts", name := "<init>", desc := "(Z)V" } : Jvm.MethodName) prog_5_method_1_code (2 : Nat) (Option.none : Option Jvm.ClassFile.FieldType)) ∈ lw_all := lw_g (lw_at lw_m5 66 rfl) rfl
theorem q1193 : (Jvm.Cond.methodLinkNest "FourOnOne$Facts" (1 : Nat) ({ cls := "FourOnOne$Test", name := "<init>", desc := "()V" } : Jvm.MethodName) "FourOnOne") ∈ lw_tbl := lw_at lw_m5 67 rfl
theorem q1197 : (Jvm.Cond.classLink "FourOnOne$Facts" (7 : Nat) "java/util/ArrayList") ∈ lw_all := lw_g (lw_at lw_m5 71 rfl) rfl
theorem q1198 : (Jvm.Cond.methodLink "FourOnOne$Facts" (9 : Nat) ({ cls := "java/util/ArrayList", name := "<init>", desc := "(I)V" } : Jvm.MethodName)) ∈ lw_all := lw_g (lw_at lw_m5 72 rfl) rfl
theorem q1199 : (Jvm.Cond.fieldLink "FourOnOne$Facts" (12 : Nat) "FourOnOne$Facts" "tests" "Ljava/util/List;") ∈ lw_all := lw_g (lw_at lw_m5 73 rfl) rfl
theorem q1201 : (Jvm.Cond.fieldLink "FourOnOne$Facts" (18 : Nat) "FourOnOne$Facts" "all" "Z") ∈ lw_all := lw_g (lw_at lw_m5 75 rfl) rfl
theorem q1202 : (Jvm.Cond.laysFinal "FourOnOne$Facts" "FourOnOne$Facts" "tests" "Ljava/util/List;") ∈ lw_all := lw_g (lw_at lw_m5 76 rfl) rfl
theorem q1203 : (Jvm.Cond.soleField "FourOnOne$Facts" "tests") ∈ lw_all := lw_g (lw_at lw_m5 77 rfl) rfl
theorem q1204 : (Jvm.Cond.laysFinal "FourOnOne$Facts" "FourOnOne$Facts" "all" "Z") ∈ lw_all := lw_g (lw_at lw_m5 78 rfl) rfl
theorem q1205 : (Jvm.Cond.soleField "FourOnOne$Facts" "all") ∈ lw_all := lw_g (lw_at lw_m5 79 rfl) rfl
theorem q1206 : (Jvm.Cond.superclass "FourOnOne$Facts" "FourOnOne$Test") ∈ lw_all := lw_g (lw_at lw_m5 80 rfl) rfl
theorem q1392 : (Jvm.Cond.selects "FourOnOne$Facts" ({ cls := "FourOnOne$Test", name := "holds", desc := "(LFourOnOne$Moment;)Z" } : Jvm.MethodName) ({ cls := "FourOnOne$Facts", name := "holds", desc := "(LFourOnOne$Moment;)Z" } : Jvm.MethodName)) ∈ lw_all := lw_g (lw_at lw_m6 26 rfl) rfl
theorem q1393 : (Jvm.Cond.instanceMethod ({ cls := "FourOnOne$Facts", name := "holds", desc := "(LFourOnOne$Moment;)Z" } : Jvm.MethodName)) ∈ lw_all := lw_g (lw_at lw_m6 27 rfl) rfl
theorem q1394 : (Jvm.Cond.code ({ cls := "FourOnOne$Facts", name := "holds", desc := "(LFourOnOne$Moment;)Z" } : Jvm.MethodName) prog_5_method_2_code (3 : Nat) (Option.some Jvm.ClassFile.FieldType.boolean)) ∈ lw_all := lw_g (lw_at lw_m6 28 rfl) rfl
theorem q1395 : (Jvm.Cond.interfaceEntry "FourOnOne$Facts" (22 : Nat)) ∈ lw_tbl := lw_at lw_m6 29 rfl
theorem q1396 : (Jvm.Cond.methodLink "FourOnOne$Facts" (22 : Nat) ({ cls := "java/util/List", name := "size", desc := "()I" } : Jvm.MethodName)) ∈ lw_all := lw_g (lw_at lw_m6 30 rfl) rfl
theorem q1397 : (Jvm.Cond.interfaceEntry "FourOnOne$Facts" (28 : Nat)) ∈ lw_tbl := lw_at lw_m6 31 rfl
theorem q1398 : (Jvm.Cond.methodLink "FourOnOne$Facts" (28 : Nat) ({ cls := "java/util/List", name := "get", desc := "(I)Ljava/lang/Object;" } : Jvm.MethodName)) ∈ lw_all := lw_g (lw_at lw_m6 32 rfl) rfl
theorem q1399 : (Jvm.Cond.classLink "FourOnOne$Facts" (2 : Nat) "FourOnOne$Test") ∈ lw_all := lw_g (lw_at lw_m6 33 rfl) rfl
theorem q1400 : (Jvm.Cond.methodLink "FourOnOne$Facts" (32 : Nat) ({ cls := "FourOnOne$Test", name := "holds", desc := "(LFourOnOne$Moment;)Z" } : Jvm.MethodName)) ∈ lw_all := lw_g (lw_at lw_m6 34 rfl) rfl
theorem q2638 : (Jvm.Cond.castable "FourOnOne$Facts" "FourOnOne$Test") ∈ lw_tbl := lw_at lw_m11 72 rfl
theorem q2665 : (Jvm.Cond.castable "FourOnOne$Facts" "java/lang/Object") ∈ lw_tbl := lw_at lw_m11 99 rfl
theorem in_X17 : ∀ w ∈ wsX170, w ∈ lw_all := lw_in wsX170 [1202, 1204] (by decide +kernel) (by decide +kernel)

/-! FourOnOne$Not -/
set_option maxRecDepth 100000
def RX18 : String := "FourOnOne$Not"
def TX18 : u_T := fun k => match k with
  | _ => ("FourOnOne$Not", "test", "LFourOnOne$Test;", true)
def tyX18 : Nat → FieldType := fun k => match k with
  | _ => .object "FourOnOne$Test"
abbrev wsX180 : List Cond := u_ws RX18 TX18 1
theorem nmX18 : ∀ a, a < 1 → ∀ b, b < 1 → a ≠ b → (TX18 a).2.1 ≠ (TX18 b).2.1 := by decide +kernel
theorem tyX18_ok : ∀ k, k < 1 → parseFieldDescriptor (TX18 k).2.2.1 = some (tyX18 k) := by decide +kernel
abbrev cX18_init : ByteArray := prog_13_method_1_code
def yX18_init : MethodName := ⟨RX18, "<init>", "(LFourOnOne$Test;)V"⟩
def dkwX18_init_0 : List UInt8 := [42, 183, 0, 1, 42, 43, 181, 0, 7, 177]
abbrev dktX18_init_0 : List UInt8 := dkwX18_init_0 ++ []
theorem dksX18_init_0 : cX18_init.data.toList.drop 0 = dktX18_init_0 := by decide +kernel
theorem dX18_init_0 : decode cX18_init 0 = .ok (.aload_n 0, 1) := dk_42 (dk_at dksX18_init_0 0 rfl rfl)
theorem dX18_init_1 : decode cX18_init 1 = .ok (.invokespecial 1, 3) := dk_183 0 1 (dk_at dksX18_init_0 1 rfl rfl)
theorem dX18_init_4 : decode cX18_init 4 = .ok (.aload_n 0, 1) := dk_42 (dk_at dksX18_init_0 4 rfl rfl)
theorem dX18_init_5 : decode cX18_init 5 = .ok (.aload_n 1, 1) := dk_43 (dk_at dksX18_init_0 5 rfl rfl)
theorem dX18_init_6 : decode cX18_init 6 = .ok (.putfield 7, 3) := dk_181 0 7 (dk_at dksX18_init_0 6 rfl rfl)
theorem dX18_init_9 : decode cX18_init 9 = .ok (.return_, 1) := dk_177 (dk_at dksX18_init_0 9 rfl rfl)
abbrev cX18_holds : ByteArray := prog_13_method_2_code
def yX18_holds : MethodName := ⟨RX18, "holds", "(LFourOnOne$Moment;)Z"⟩
def dkwX18_holds_0 : List UInt8 := [42, 180, 0, 7, 43, 182, 0, 13, 154, 0, 7, 4, 167, 0, 4, 3, 172]
abbrev dktX18_holds_0 : List UInt8 := dkwX18_holds_0 ++ []
theorem dksX18_holds_0 : cX18_holds.data.toList.drop 0 = dktX18_holds_0 := by decide +kernel
theorem dX18_holds_0 : decode cX18_holds 0 = .ok (.aload_n 0, 1) := dk_42 (dk_at dksX18_holds_0 0 rfl rfl)
theorem dX18_holds_1 : decode cX18_holds 1 = .ok (.getfield 7, 3) := dk_180 0 7 (dk_at dksX18_holds_0 1 rfl rfl)
theorem dX18_holds_4 : decode cX18_holds 4 = .ok (.aload_n 1, 1) := dk_43 (dk_at dksX18_holds_0 4 rfl rfl)
theorem dX18_holds_5 : decode cX18_holds 5 = .ok (.invokevirtual 13, 3) := dk_182 0 13 (dk_at dksX18_holds_0 5 rfl rfl)
theorem dX18_holds_8 : decode cX18_holds 8 = .ok (.ifCond .ne 7, 3) := dk_154 0 7 (dk_at dksX18_holds_0 8 rfl rfl)
theorem dX18_holds_11 : decode cX18_holds 11 = .ok (.iconst 1, 1) := dk_4 (dk_at dksX18_holds_0 11 rfl rfl)
theorem dX18_holds_12 : decode cX18_holds 12 = .ok (.goto 4, 3) := dk_167 0 4 (dk_at dksX18_holds_0 12 rfl rfl)
theorem dX18_holds_15 : decode cX18_holds 15 = .ok (.iconst 0, 1) := dk_3 (dk_at dksX18_holds_0 15 rfl rfl)
theorem dX18_holds_16 : decode cX18_holds 16 = .ok (.ireturn, 1) := dk_172 (dk_at dksX18_holds_0 16 rfl rfl)
theorem q202 : (Jvm.Cond.initialized "FourOnOne$Not") ∈ lw_all := lw_g (lw_at lw_m1 36 rfl) rfl
theorem q879 : (Jvm.Cond.selects "FourOnOne$Not" ({ cls := "java/lang/Object", name := "getClass", desc := "()Ljava/lang/Class;" } : Jvm.MethodName) ({ cls := "java/lang/Object", name := "getClass", desc := "()Ljava/lang/Class;" } : Jvm.MethodName)) ∈ lw_all := lw_g (lw_at lw_m3 233 rfl) rfl
theorem q1221 : (Jvm.Cond.instantiable "FourOnOne$Not" (1 : Nat)) ∈ lw_all := lw_g (lw_at lw_m5 95 rfl) rfl
theorem q1223 : (Jvm.Cond.instanceMethod ({ cls := "FourOnOne$Not", name := "<init>", desc := "(LFourOnOne$Test;)V" } : Jvm.MethodName)) ∈ lw_all := lw_g (lw_at lw_m5 97 rfl) rfl
theorem q1224 : (Jvm.Cond.code ({ cls := "FourOnOne$Not", name := "<init>", desc := "(LFourOnOne$Test;)V" } : Jvm.MethodName) prog_13_method_1_code (2 : Nat) (Option.none : Option Jvm.ClassFile.FieldType)) ∈ lw_all := lw_g (lw_at lw_m5 98 rfl) rfl
theorem q1225 : (Jvm.Cond.methodLinkNest "FourOnOne$Not" (1 : Nat) ({ cls := "FourOnOne$Test", name := "<init>", desc := "()V" } : Jvm.MethodName) "FourOnOne") ∈ lw_tbl := lw_at lw_m5 99 rfl
theorem q1226 : (Jvm.Cond.fieldLink "FourOnOne$Not" (7 : Nat) "FourOnOne$Not" "test" "LFourOnOne$Test;") ∈ lw_all := lw_g (lw_at lw_m5 100 rfl) rfl
theorem q1227 : (Jvm.Cond.laysFinal "FourOnOne$Not" "FourOnOne$Not" "test" "LFourOnOne$Test;") ∈ lw_all := lw_g (lw_at lw_m5 101 rfl) rfl
theorem q1228 : (Jvm.Cond.soleField "FourOnOne$Not" "test") ∈ lw_all := lw_g (lw_at lw_m5 102 rfl) rfl
theorem q1229 : (Jvm.Cond.superclass "FourOnOne$Not" "FourOnOne$Test") ∈ lw_all := lw_g (lw_at lw_m5 103 rfl) rfl
theorem q1401 : (Jvm.Cond.instanceMethod ({ cls := "FourOnOne$Not", name := "holds", desc := "(LFourOnOne$Moment;)Z" } : Jvm.MethodName)) ∈ lw_all := lw_g (lw_at lw_m6 35 rfl) rfl
theorem q1402 : (Jvm.Cond.code ({ cls := "FourOnOne$Not", name := "holds", desc := "(LFourOnOne$Moment;)Z" } : Jvm.MethodName) prog_13_method_2_code (2 : Nat) (Option.some Jvm.ClassFile.FieldType.boolean)) ∈ lw_all := lw_g (lw_at lw_m6 36 rfl) rfl
theorem q1403 : (Jvm.Cond.methodLink "FourOnOne$Not" (13 : Nat) ({ cls := "FourOnOne$Test", name := "holds", desc := "(LFourOnOne$Moment;)Z" } : Jvm.MethodName)) ∈ lw_all := lw_g (lw_at lw_m6 37 rfl) rfl
theorem q1465 : (Jvm.Cond.selects "FourOnOne$Not" ({ cls := "FourOnOne$Test", name := "holds", desc := "(LFourOnOne$Moment;)Z" } : Jvm.MethodName) ({ cls := "FourOnOne$Not", name := "holds", desc := "(LFourOnOne$Moment;)Z" } : Jvm.MethodName)) ∈ lw_all := lw_g (lw_at lw_m6 99 rfl) rfl
theorem q2639 : (Jvm.Cond.castable "FourOnOne$Not" "FourOnOne$Test") ∈ lw_tbl := lw_at lw_m11 73 rfl
theorem q2666 : (Jvm.Cond.castable "FourOnOne$Not" "java/lang/Object") ∈ lw_tbl := lw_at lw_m11 100 rfl
theorem in_X18 : ∀ w ∈ wsX180, w ∈ lw_all := lw_in wsX180 [1227] (by decide +kernel) (by decide +kernel)

/-! FourOnOne$All -/
set_option maxRecDepth 100000
def RX19 : String := "FourOnOne$All"
abbrev cX19_init : ByteArray := prog_2_method_1_code
def yX19_init : MethodName := ⟨RX19, "<init>", "()V"⟩
theorem dX19_init_0 : decode cX19_init 0 = .ok (.aload_n 0, 1) := by decide +kernel
theorem dX19_init_1 : decode cX19_init 1 = .ok (.invokespecial 1, 3) := by decide +kernel
theorem dX19_init_4 : decode cX19_init 4 = .ok (.return_, 1) := by decide +kernel
abbrev cX19_holds : ByteArray := prog_2_method_2_code
def yX19_holds : MethodName := ⟨RX19, "holds", "(LFourOnOne$Moment;)Z"⟩
theorem dX19_holds_0 : decode cX19_holds 0 = .ok (.iconst 1, 1) := by decide +kernel
theorem dX19_holds_1 : decode cX19_holds 1 = .ok (.ireturn, 1) := by decide +kernel
theorem q203 : (Jvm.Cond.initialized "FourOnOne$All") ∈ lw_all := lw_g (lw_at lw_m1 37 rfl) rfl
theorem q868 : (Jvm.Cond.selects "FourOnOne$All" ({ cls := "java/lang/Object", name := "getClass", desc := "()Ljava/lang/Class;" } : Jvm.MethodName) ({ cls := "java/lang/Object", name := "getClass", desc := "()Ljava/lang/Class;" } : Jvm.MethodName)) ∈ lw_all := lw_g (lw_at lw_m3 222 rfl) rfl
theorem q1232 : (Jvm.Cond.instantiable "FourOnOne$All" (0 : Nat)) ∈ lw_all := lw_g (lw_at lw_m5 106 rfl) rfl
theorem q1234 : (Jvm.Cond.instanceMethod ({ cls := "FourOnOne$All", name := "<init>", desc := "()V" } : Jvm.MethodName)) ∈ lw_all := lw_g (lw_at lw_m5 108 rfl) rfl
theorem q1235 : (Jvm.Cond.code ({ cls := "FourOnOne$All", name := "<init>", desc := "()V" } : Jvm.MethodName) prog_2_method_1_code (1 : Nat) (Option.none : Option Jvm.ClassFile.FieldType)) ∈ lw_all := lw_g (lw_at lw_m5 109 rfl) rfl
theorem q1236 : (Jvm.Cond.methodLinkNest "FourOnOne$All" (1 : Nat) ({ cls := "FourOnOne$Test", name := "<init>", desc := "()V" } : Jvm.MethodName) "FourOnOne") ∈ lw_tbl := lw_at lw_m5 110 rfl
theorem q1237 : (Jvm.Cond.superclass "FourOnOne$All" "FourOnOne$Test") ∈ lw_all := lw_g (lw_at lw_m5 111 rfl) rfl
theorem q1389 : (Jvm.Cond.selects "FourOnOne$All" ({ cls := "FourOnOne$Test", name := "holds", desc := "(LFourOnOne$Moment;)Z" } : Jvm.MethodName) ({ cls := "FourOnOne$All", name := "holds", desc := "(LFourOnOne$Moment;)Z" } : Jvm.MethodName)) ∈ lw_all := lw_g (lw_at lw_m6 23 rfl) rfl
theorem q1390 : (Jvm.Cond.instanceMethod ({ cls := "FourOnOne$All", name := "holds", desc := "(LFourOnOne$Moment;)Z" } : Jvm.MethodName)) ∈ lw_all := lw_g (lw_at lw_m6 24 rfl) rfl
theorem q1391 : (Jvm.Cond.code ({ cls := "FourOnOne$All", name := "holds", desc := "(LFourOnOne$Moment;)Z" } : Jvm.MethodName) prog_2_method_2_code (2 : Nat) (Option.some Jvm.ClassFile.FieldType.boolean)) ∈ lw_all := lw_g (lw_at lw_m6 25 rfl) rfl
theorem q2637 : (Jvm.Cond.castable "FourOnOne$All" "FourOnOne$Test") ∈ lw_tbl := lw_at lw_m11 71 rfl
theorem q2667 : (Jvm.Cond.castable "FourOnOne$All" "java/lang/Object") ∈ lw_tbl := lw_at lw_m11 101 rfl

/-! FourOnOne$Than -/
set_option maxRecDepth 100000
def RX20 : String := "FourOnOne$Than"
def TX20 : u_T := fun k => match k with
  | 0 => ("FourOnOne$Than", "a", "LFourOnOne$Value;", true)
  | 1 => ("FourOnOne$Than", "b", "LFourOnOne$Value;", true)
  | _ => ("FourOnOne$Than", "sign", "I", true)
def tyX20 : Nat → FieldType := fun k => match k with
  | 0 => .object "FourOnOne$Value"
  | 1 => .object "FourOnOne$Value"
  | _ => .int
abbrev wsX200 : List Cond := u_ws RX20 TX20 3
theorem nmX20 : ∀ a, a < 3 → ∀ b, b < 3 → a ≠ b → (TX20 a).2.1 ≠ (TX20 b).2.1 := by decide +kernel
theorem tyX20_ok : ∀ k, k < 3 → parseFieldDescriptor (TX20 k).2.2.1 = some (tyX20 k) := by decide +kernel
abbrev cX20_init : ByteArray := prog_20_method_1_code
def yX20_init : MethodName := ⟨RX20, "<init>", "(LFourOnOne$Value;ILFourOnOne$Value;)V"⟩
def dkwX20_init_0 : List UInt8 := [42, 183, 0, 1, 42, 43, 181, 0, 7, 42, 28, 181, 0, 13, 42, 45, 181, 0, 17, 177]
abbrev dktX20_init_0 : List UInt8 := dkwX20_init_0 ++ []
theorem dksX20_init_0 : cX20_init.data.toList.drop 0 = dktX20_init_0 := by decide +kernel
theorem dX20_init_0 : decode cX20_init 0 = .ok (.aload_n 0, 1) := dk_42 (dk_at dksX20_init_0 0 rfl rfl)
theorem dX20_init_1 : decode cX20_init 1 = .ok (.invokespecial 1, 3) := dk_183 0 1 (dk_at dksX20_init_0 1 rfl rfl)
theorem dX20_init_4 : decode cX20_init 4 = .ok (.aload_n 0, 1) := dk_42 (dk_at dksX20_init_0 4 rfl rfl)
theorem dX20_init_5 : decode cX20_init 5 = .ok (.aload_n 1, 1) := dk_43 (dk_at dksX20_init_0 5 rfl rfl)
theorem dX20_init_6 : decode cX20_init 6 = .ok (.putfield 7, 3) := dk_181 0 7 (dk_at dksX20_init_0 6 rfl rfl)
theorem dX20_init_9 : decode cX20_init 9 = .ok (.aload_n 0, 1) := dk_42 (dk_at dksX20_init_0 9 rfl rfl)
theorem dX20_init_10 : decode cX20_init 10 = .ok (.iload_n 2, 1) := dk_28 (dk_at dksX20_init_0 10 rfl rfl)
theorem dX20_init_11 : decode cX20_init 11 = .ok (.putfield 13, 3) := dk_181 0 13 (dk_at dksX20_init_0 11 rfl rfl)
theorem dX20_init_14 : decode cX20_init 14 = .ok (.aload_n 0, 1) := dk_42 (dk_at dksX20_init_0 14 rfl rfl)
theorem dX20_init_15 : decode cX20_init 15 = .ok (.aload_n 3, 1) := dk_45 (dk_at dksX20_init_0 15 rfl rfl)
theorem dX20_init_16 : decode cX20_init 16 = .ok (.putfield 17, 3) := dk_181 0 17 (dk_at dksX20_init_0 16 rfl rfl)
theorem dX20_init_19 : decode cX20_init 19 = .ok (.return_, 1) := dk_177 (dk_at dksX20_init_0 19 rfl rfl)
abbrev cX20_holds : ByteArray := prog_20_method_2_code
def yX20_holds : MethodName := ⟨RX20, "holds", "(LFourOnOne$Moment;)Z"⟩
def dkwX20_holds_3 : List UInt8 := [154, 0, 7, 4, 167, 0, 4, 3, 172]
abbrev dktX20_holds_3 : List UInt8 := dkwX20_holds_3 ++ []
def dkwX20_holds_2 : List UInt8 := [16, 62, 160, 0, 18, 32, 22, 4, 148, 158, 0, 7, 4, 167, 0, 19, 3, 167, 0, 15, 32, 22, 4, 148]
abbrev dktX20_holds_2 : List UInt8 := dkwX20_holds_2 ++ dktX20_holds_3
def dkwX20_holds_1 : List UInt8 := [16, 60, 160, 0, 18, 32, 22, 4, 148, 156, 0, 7, 4, 167, 0, 43, 3, 167, 0, 39, 42, 180, 0, 13]
abbrev dktX20_holds_1 : List UInt8 := dkwX20_holds_1 ++ dktX20_holds_2
def dkwX20_holds_0 : List UInt8 := [42, 180, 0, 7, 43, 182, 0, 20, 65, 42, 180, 0, 17, 43, 182, 0, 20, 55, 4, 42, 180, 0, 13]
abbrev dktX20_holds_0 : List UInt8 := dkwX20_holds_0 ++ dktX20_holds_1
theorem dksX20_holds_0 : cX20_holds.data.toList.drop 0 = dktX20_holds_0 := by decide +kernel
theorem dksX20_holds_1 : cX20_holds.data.toList.drop 23 = dktX20_holds_1 := dk_seg dksX20_holds_0 23 rfl rfl
theorem dksX20_holds_2 : cX20_holds.data.toList.drop 47 = dktX20_holds_2 := dk_seg dksX20_holds_1 24 rfl rfl
theorem dksX20_holds_3 : cX20_holds.data.toList.drop 71 = dktX20_holds_3 := dk_seg dksX20_holds_2 24 rfl rfl
theorem dX20_holds_0 : decode cX20_holds 0 = .ok (.aload_n 0, 1) := dk_42 (dk_at dksX20_holds_0 0 rfl rfl)
theorem dX20_holds_1 : decode cX20_holds 1 = .ok (.getfield 7, 3) := dk_180 0 7 (dk_at dksX20_holds_0 1 rfl rfl)
theorem dX20_holds_4 : decode cX20_holds 4 = .ok (.aload_n 1, 1) := dk_43 (dk_at dksX20_holds_0 4 rfl rfl)
theorem dX20_holds_5 : decode cX20_holds 5 = .ok (.invokevirtual 20, 3) := dk_182 0 20 (dk_at dksX20_holds_0 5 rfl rfl)
theorem dX20_holds_8 : decode cX20_holds 8 = .ok (.lstore_n 2, 1) := dk_65 (dk_at dksX20_holds_0 8 rfl rfl)
theorem dX20_holds_9 : decode cX20_holds 9 = .ok (.aload_n 0, 1) := dk_42 (dk_at dksX20_holds_0 9 rfl rfl)
theorem dX20_holds_10 : decode cX20_holds 10 = .ok (.getfield 17, 3) := dk_180 0 17 (dk_at dksX20_holds_0 10 rfl rfl)
theorem dX20_holds_13 : decode cX20_holds 13 = .ok (.aload_n 1, 1) := dk_43 (dk_at dksX20_holds_0 13 rfl rfl)
theorem dX20_holds_14 : decode cX20_holds 14 = .ok (.invokevirtual 20, 3) := dk_182 0 20 (dk_at dksX20_holds_0 14 rfl rfl)
theorem dX20_holds_17 : decode cX20_holds 17 = .ok (.lstore 4, 2) := dk_55 4 (dk_at dksX20_holds_0 17 rfl rfl)
theorem dX20_holds_19 : decode cX20_holds 19 = .ok (.aload_n 0, 1) := dk_42 (dk_at dksX20_holds_0 19 rfl rfl)
theorem dX20_holds_20 : decode cX20_holds 20 = .ok (.getfield 13, 3) := dk_180 0 13 (dk_at dksX20_holds_0 20 rfl rfl)
theorem dX20_holds_23 : decode cX20_holds 23 = .ok (.bipush 60, 2) := dk_16 60 (dk_at dksX20_holds_1 0 rfl rfl)
theorem dX20_holds_25 : decode cX20_holds 25 = .ok (.if_icmp .ne 18, 3) := dk_160 0 18 (dk_at dksX20_holds_1 2 rfl rfl)
theorem dX20_holds_28 : decode cX20_holds 28 = .ok (.lload_n 2, 1) := dk_32 (dk_at dksX20_holds_1 5 rfl rfl)
theorem dX20_holds_29 : decode cX20_holds 29 = .ok (.lload 4, 2) := dk_22 4 (dk_at dksX20_holds_1 6 rfl rfl)
theorem dX20_holds_31 : decode cX20_holds 31 = .ok (.lcmp, 1) := dk_148 (dk_at dksX20_holds_1 8 rfl rfl)
theorem dX20_holds_32 : decode cX20_holds 32 = .ok (.ifCond .ge 7, 3) := dk_156 0 7 (dk_at dksX20_holds_1 9 rfl rfl)
theorem dX20_holds_35 : decode cX20_holds 35 = .ok (.iconst 1, 1) := dk_4 (dk_at dksX20_holds_1 12 rfl rfl)
theorem dX20_holds_36 : decode cX20_holds 36 = .ok (.goto 43, 3) := dk_167 0 43 (dk_at dksX20_holds_1 13 rfl rfl)
theorem dX20_holds_39 : decode cX20_holds 39 = .ok (.iconst 0, 1) := dk_3 (dk_at dksX20_holds_1 16 rfl rfl)
theorem dX20_holds_40 : decode cX20_holds 40 = .ok (.goto 39, 3) := dk_167 0 39 (dk_at dksX20_holds_1 17 rfl rfl)
theorem dX20_holds_43 : decode cX20_holds 43 = .ok (.aload_n 0, 1) := dk_42 (dk_at dksX20_holds_1 20 rfl rfl)
theorem dX20_holds_44 : decode cX20_holds 44 = .ok (.getfield 13, 3) := dk_180 0 13 (dk_at dksX20_holds_1 21 rfl rfl)
theorem dX20_holds_47 : decode cX20_holds 47 = .ok (.bipush 62, 2) := dk_16 62 (dk_at dksX20_holds_2 0 rfl rfl)
theorem dX20_holds_49 : decode cX20_holds 49 = .ok (.if_icmp .ne 18, 3) := dk_160 0 18 (dk_at dksX20_holds_2 2 rfl rfl)
theorem dX20_holds_52 : decode cX20_holds 52 = .ok (.lload_n 2, 1) := dk_32 (dk_at dksX20_holds_2 5 rfl rfl)
theorem dX20_holds_53 : decode cX20_holds 53 = .ok (.lload 4, 2) := dk_22 4 (dk_at dksX20_holds_2 6 rfl rfl)
theorem dX20_holds_55 : decode cX20_holds 55 = .ok (.lcmp, 1) := dk_148 (dk_at dksX20_holds_2 8 rfl rfl)
theorem dX20_holds_56 : decode cX20_holds 56 = .ok (.ifCond .le 7, 3) := dk_158 0 7 (dk_at dksX20_holds_2 9 rfl rfl)
theorem dX20_holds_59 : decode cX20_holds 59 = .ok (.iconst 1, 1) := dk_4 (dk_at dksX20_holds_2 12 rfl rfl)
theorem dX20_holds_60 : decode cX20_holds 60 = .ok (.goto 19, 3) := dk_167 0 19 (dk_at dksX20_holds_2 13 rfl rfl)
theorem dX20_holds_63 : decode cX20_holds 63 = .ok (.iconst 0, 1) := dk_3 (dk_at dksX20_holds_2 16 rfl rfl)
theorem dX20_holds_64 : decode cX20_holds 64 = .ok (.goto 15, 3) := dk_167 0 15 (dk_at dksX20_holds_2 17 rfl rfl)
theorem dX20_holds_67 : decode cX20_holds 67 = .ok (.lload_n 2, 1) := dk_32 (dk_at dksX20_holds_2 20 rfl rfl)
theorem dX20_holds_68 : decode cX20_holds 68 = .ok (.lload 4, 2) := dk_22 4 (dk_at dksX20_holds_2 21 rfl rfl)
theorem dX20_holds_70 : decode cX20_holds 70 = .ok (.lcmp, 1) := dk_148 (dk_at dksX20_holds_2 23 rfl rfl)
theorem dX20_holds_71 : decode cX20_holds 71 = .ok (.ifCond .ne 7, 3) := dk_154 0 7 (dk_at dksX20_holds_3 0 rfl rfl)
theorem dX20_holds_74 : decode cX20_holds 74 = .ok (.iconst 1, 1) := dk_4 (dk_at dksX20_holds_3 3 rfl rfl)
theorem dX20_holds_75 : decode cX20_holds 75 = .ok (.goto 4, 3) := dk_167 0 4 (dk_at dksX20_holds_3 4 rfl rfl)
theorem dX20_holds_78 : decode cX20_holds 78 = .ok (.iconst 0, 1) := dk_3 (dk_at dksX20_holds_3 7 rfl rfl)
theorem dX20_holds_79 : decode cX20_holds 79 = .ok (.ireturn, 1) := dk_172 (dk_at dksX20_holds_3 8 rfl rfl)
theorem q204 : (Jvm.Cond.initialized "FourOnOne$Than") ∈ lw_all := lw_g (lw_at lw_m1 38 rfl) rfl
theorem q885 : (Jvm.Cond.selects "FourOnOne$Than" ({ cls := "java/lang/Object", name := "getClass", desc := "()Ljava/lang/Class;" } : Jvm.MethodName) ({ cls := "java/lang/Object", name := "getClass", desc := "()Ljava/lang/Class;" } : Jvm.MethodName)) ∈ lw_all := lw_g (lw_at lw_m3 239 rfl) rfl
theorem q1239 : (Jvm.Cond.instantiable "FourOnOne$Than" (3 : Nat)) ∈ lw_all := lw_g (lw_at lw_m5 113 rfl) rfl
theorem q1241 : (Jvm.Cond.instanceMethod ({ cls := "FourOnOne$Than", name := "<init>", desc := "(LFourOnOne$Value;ILFourOnOne$Value;)V" } : Jvm.MethodName)) ∈ lw_all := lw_g (lw_at lw_m5 115 rfl) rfl
theorem q1242 : (Jvm.Cond.code ({ cls := "FourOnOne$Than", name := "<init>", desc := "(LFourOnOne$Value;ILFourOnOne$Value;)V" } : Jvm.MethodName) prog_20_method_1_code (4 : Nat) (Option.none : Option Jvm.ClassFile.FieldType)) ∈ lw_all := lw_g (lw_at lw_m5 116 rfl) rfl
theorem q1243 : (Jvm.Cond.methodLinkNest "FourOnOne$Than" (1 : Nat) ({ cls := "FourOnOne$Test", name := "<init>", desc := "()V" } : Jvm.MethodName) "FourOnOne") ∈ lw_tbl := lw_at lw_m5 117 rfl
theorem q1244 : (Jvm.Cond.fieldLink "FourOnOne$Than" (7 : Nat) "FourOnOne$Than" "a" "LFourOnOne$Value;") ∈ lw_all := lw_g (lw_at lw_m5 118 rfl) rfl
theorem q1245 : (Jvm.Cond.fieldLink "FourOnOne$Than" (17 : Nat) "FourOnOne$Than" "b" "LFourOnOne$Value;") ∈ lw_all := lw_g (lw_at lw_m5 119 rfl) rfl
theorem q1246 : (Jvm.Cond.fieldLink "FourOnOne$Than" (13 : Nat) "FourOnOne$Than" "sign" "I") ∈ lw_all := lw_g (lw_at lw_m5 120 rfl) rfl
theorem q1247 : (Jvm.Cond.laysFinal "FourOnOne$Than" "FourOnOne$Than" "a" "LFourOnOne$Value;") ∈ lw_all := lw_g (lw_at lw_m5 121 rfl) rfl
theorem q1248 : (Jvm.Cond.soleField "FourOnOne$Than" "a") ∈ lw_all := lw_g (lw_at lw_m5 122 rfl) rfl
theorem q1249 : (Jvm.Cond.laysFinal "FourOnOne$Than" "FourOnOne$Than" "b" "LFourOnOne$Value;") ∈ lw_all := lw_g (lw_at lw_m5 123 rfl) rfl
theorem q1250 : (Jvm.Cond.soleField "FourOnOne$Than" "b") ∈ lw_all := lw_g (lw_at lw_m5 124 rfl) rfl
theorem q1251 : (Jvm.Cond.laysFinal "FourOnOne$Than" "FourOnOne$Than" "sign" "I") ∈ lw_all := lw_g (lw_at lw_m5 125 rfl) rfl
theorem q1252 : (Jvm.Cond.soleField "FourOnOne$Than" "sign") ∈ lw_all := lw_g (lw_at lw_m5 126 rfl) rfl
theorem q1253 : (Jvm.Cond.superclass "FourOnOne$Than" "FourOnOne$Test") ∈ lw_all := lw_g (lw_at lw_m5 127 rfl) rfl
theorem q1404 : (Jvm.Cond.instanceMethod ({ cls := "FourOnOne$Than", name := "holds", desc := "(LFourOnOne$Moment;)Z" } : Jvm.MethodName)) ∈ lw_all := lw_g (lw_at lw_m6 38 rfl) rfl
theorem q1405 : (Jvm.Cond.code ({ cls := "FourOnOne$Than", name := "holds", desc := "(LFourOnOne$Moment;)Z" } : Jvm.MethodName) prog_20_method_2_code (6 : Nat) (Option.some Jvm.ClassFile.FieldType.boolean)) ∈ lw_all := lw_g (lw_at lw_m6 39 rfl) rfl
theorem q1406 : (Jvm.Cond.methodLink "FourOnOne$Than" (20 : Nat) ({ cls := "FourOnOne$Value", name := "at", desc := "(LFourOnOne$Moment;)J" } : Jvm.MethodName)) ∈ lw_all := lw_g (lw_at lw_m6 40 rfl) rfl
theorem q1466 : (Jvm.Cond.selects "FourOnOne$Than" ({ cls := "FourOnOne$Test", name := "holds", desc := "(LFourOnOne$Moment;)Z" } : Jvm.MethodName) ({ cls := "FourOnOne$Than", name := "holds", desc := "(LFourOnOne$Moment;)Z" } : Jvm.MethodName)) ∈ lw_all := lw_g (lw_at lw_m6 100 rfl) rfl
theorem q2640 : (Jvm.Cond.castable "FourOnOne$Than" "FourOnOne$Test") ∈ lw_tbl := lw_at lw_m11 74 rfl
theorem q2668 : (Jvm.Cond.castable "FourOnOne$Than" "java/lang/Object") ∈ lw_tbl := lw_at lw_m11 102 rfl
theorem in_X20 : ∀ w ∈ wsX200, w ∈ lw_all := lw_in wsX200 [1247, 1249, 1251] (by decide +kernel) (by decide +kernel)

/-! FourOnOne$Question -/
set_option maxRecDepth 100000
def RX21 : String := "FourOnOne$Question"
def TX21 : u_T := fun k => match k with
  | 0 => ("FourOnOne$Question", "what", "I", true)
  | 1 => ("FourOnOne$Question", "test", "LFourOnOne$Test;", true)
  | 2 => ("FourOnOne$Question", "sum", "LFourOnOne$Value;", true)
  | 3 => ("FourOnOne$Question", "found", "J", false)
  | _ => ("FourOnOne$Question", "has", "Z", false)
def tyX21 : Nat → FieldType := fun k => match k with
  | 0 => .int
  | 1 => .object "FourOnOne$Test"
  | 2 => .object "FourOnOne$Value"
  | 3 => .long
  | _ => .boolean
abbrev wsX210 : List Cond := u_ws RX21 TX21 5
theorem nmX21 : ∀ a, a < 5 → ∀ b, b < 5 → a ≠ b → (TX21 a).2.1 ≠ (TX21 b).2.1 := by decide +kernel
theorem tyX21_ok : ∀ k, k < 5 → parseFieldDescriptor (TX21 k).2.2.1 = some (tyX21 k) := by decide +kernel
abbrev cX21_init : ByteArray := prog_16_method_1_code
def yX21_init : MethodName := ⟨RX21, "<init>", "(ILFourOnOne$Test;LFourOnOne$Value;)V"⟩
def dkwX21_init_1 : List UInt8 := [181, 0, 25, 177]
abbrev dktX21_init_1 : List UInt8 := dkwX21_init_1 ++ []
def dkwX21_init_0 : List UInt8 := [42, 183, 0, 3, 42, 20, 0, 9, 181, 0, 11, 42, 27, 181, 0, 17, 42, 44, 181, 0, 21, 42, 45]
abbrev dktX21_init_0 : List UInt8 := dkwX21_init_0 ++ dktX21_init_1
theorem dksX21_init_0 : cX21_init.data.toList.drop 0 = dktX21_init_0 := by decide +kernel
theorem dksX21_init_1 : cX21_init.data.toList.drop 23 = dktX21_init_1 := dk_seg dksX21_init_0 23 rfl rfl
theorem dX21_init_0 : decode cX21_init 0 = .ok (.aload_n 0, 1) := dk_42 (dk_at dksX21_init_0 0 rfl rfl)
theorem dX21_init_1 : decode cX21_init 1 = .ok (.invokespecial 3, 3) := dk_183 0 3 (dk_at dksX21_init_0 1 rfl rfl)
theorem dX21_init_4 : decode cX21_init 4 = .ok (.aload_n 0, 1) := dk_42 (dk_at dksX21_init_0 4 rfl rfl)
theorem dX21_init_5 : decode cX21_init 5 = .ok (.ldc2_w 9, 3) := dk_20 0 9 (dk_at dksX21_init_0 5 rfl rfl)
theorem dX21_init_8 : decode cX21_init 8 = .ok (.putfield 11, 3) := dk_181 0 11 (dk_at dksX21_init_0 8 rfl rfl)
theorem dX21_init_11 : decode cX21_init 11 = .ok (.aload_n 0, 1) := dk_42 (dk_at dksX21_init_0 11 rfl rfl)
theorem dX21_init_12 : decode cX21_init 12 = .ok (.iload_n 1, 1) := dk_27 (dk_at dksX21_init_0 12 rfl rfl)
theorem dX21_init_13 : decode cX21_init 13 = .ok (.putfield 17, 3) := dk_181 0 17 (dk_at dksX21_init_0 13 rfl rfl)
theorem dX21_init_16 : decode cX21_init 16 = .ok (.aload_n 0, 1) := dk_42 (dk_at dksX21_init_0 16 rfl rfl)
theorem dX21_init_17 : decode cX21_init 17 = .ok (.aload_n 2, 1) := dk_44 (dk_at dksX21_init_0 17 rfl rfl)
theorem dX21_init_18 : decode cX21_init 18 = .ok (.putfield 21, 3) := dk_181 0 21 (dk_at dksX21_init_0 18 rfl rfl)
theorem dX21_init_21 : decode cX21_init 21 = .ok (.aload_n 0, 1) := dk_42 (dk_at dksX21_init_0 21 rfl rfl)
theorem dX21_init_22 : decode cX21_init 22 = .ok (.aload_n 3, 1) := dk_45 (dk_at dksX21_init_0 22 rfl rfl)
theorem dX21_init_23 : decode cX21_init 23 = .ok (.putfield 25, 3) := dk_181 0 25 (dk_at dksX21_init_1 0 rfl rfl)
theorem dX21_init_26 : decode cX21_init 26 = .ok (.return_, 1) := dk_177 (dk_at dksX21_init_1 3 rfl rfl)
abbrev cX21_meets : ByteArray := prog_16_method_2_code
def yX21_meets : MethodName := ⟨RX21, "meets", "(ILFourOnOne$Moment;)V"⟩
def dkwX21_meets_6 : List UInt8 := [181, 0, 11, 42, 4, 181, 0, 41, 177]
abbrev dktX21_meets_6 : List UInt8 := dkwX21_meets_6 ++ []
def dkwX21_meets_5 : List UInt8 := [7, 160, 0, 14, 42, 180, 0, 11, 33, 184, 0, 35, 167, 0, 11, 42, 180, 0, 11, 33, 184, 0, 51]
abbrev dktX21_meets_5 : List UInt8 := dkwX21_meets_5 ++ dktX21_meets_6
def dkwX21_meets_4 : List UInt8 := [167, 0, 47, 42, 180, 0, 17, 6, 160, 0, 12, 42, 180, 0, 11, 33, 97, 167, 0, 30, 42, 180, 0, 17]
abbrev dktX21_meets_4 : List UInt8 := dkwX21_meets_4 ++ dktX21_meets_5
def dkwX21_meets_3 : List UInt8 := [181, 0, 41, 177, 42, 180, 0, 25, 44, 182, 0, 45, 66, 42, 42, 180, 0, 41, 154, 0, 7, 33]
abbrev dktX21_meets_3 : List UInt8 := dkwX21_meets_3 ++ dktX21_meets_4
def dkwX21_meets_2 : List UInt8 := [154, 0, 17, 42, 180, 0, 41, 153, 0, 10, 42, 180, 0, 11, 167, 0, 5, 27, 133, 181, 0, 11, 42, 4]
abbrev dktX21_meets_2 : List UInt8 := dkwX21_meets_2 ++ dktX21_meets_3
def dkwX21_meets_1 : List UInt8 := [180, 0, 17, 5, 160, 0, 16, 9, 42, 180, 0, 11, 184, 0, 35, 10, 97, 167, 0, 26, 42, 180, 0, 17]
abbrev dktX21_meets_1 : List UInt8 := dkwX21_meets_1 ++ dktX21_meets_2
def dkwX21_meets_0 : List UInt8 := [42, 180, 0, 17, 6, 162, 0, 69, 42, 180, 0, 21, 44, 182, 0, 29, 154, 0, 4, 177, 42, 42]
abbrev dktX21_meets_0 : List UInt8 := dkwX21_meets_0 ++ dktX21_meets_1
theorem dksX21_meets_0 : cX21_meets.data.toList.drop 0 = dktX21_meets_0 := by decide +kernel
theorem dksX21_meets_1 : cX21_meets.data.toList.drop 22 = dktX21_meets_1 := dk_seg dksX21_meets_0 22 rfl rfl
theorem dksX21_meets_2 : cX21_meets.data.toList.drop 46 = dktX21_meets_2 := dk_seg dksX21_meets_1 24 rfl rfl
theorem dksX21_meets_3 : cX21_meets.data.toList.drop 70 = dktX21_meets_3 := dk_seg dksX21_meets_2 24 rfl rfl
theorem dksX21_meets_4 : cX21_meets.data.toList.drop 92 = dktX21_meets_4 := dk_seg dksX21_meets_3 22 rfl rfl
theorem dksX21_meets_5 : cX21_meets.data.toList.drop 116 = dktX21_meets_5 := dk_seg dksX21_meets_4 24 rfl rfl
theorem dksX21_meets_6 : cX21_meets.data.toList.drop 139 = dktX21_meets_6 := dk_seg dksX21_meets_5 23 rfl rfl
theorem dX21_meets_0 : decode cX21_meets 0 = .ok (.aload_n 0, 1) := dk_42 (dk_at dksX21_meets_0 0 rfl rfl)
theorem dX21_meets_1 : decode cX21_meets 1 = .ok (.getfield 17, 3) := dk_180 0 17 (dk_at dksX21_meets_0 1 rfl rfl)
theorem dX21_meets_4 : decode cX21_meets 4 = .ok (.iconst 3, 1) := dk_6 (dk_at dksX21_meets_0 4 rfl rfl)
theorem dX21_meets_5 : decode cX21_meets 5 = .ok (.if_icmp .ge 69, 3) := dk_162 0 69 (dk_at dksX21_meets_0 5 rfl rfl)
theorem dX21_meets_8 : decode cX21_meets 8 = .ok (.aload_n 0, 1) := dk_42 (dk_at dksX21_meets_0 8 rfl rfl)
theorem dX21_meets_9 : decode cX21_meets 9 = .ok (.getfield 21, 3) := dk_180 0 21 (dk_at dksX21_meets_0 9 rfl rfl)
theorem dX21_meets_12 : decode cX21_meets 12 = .ok (.aload_n 2, 1) := dk_44 (dk_at dksX21_meets_0 12 rfl rfl)
theorem dX21_meets_13 : decode cX21_meets 13 = .ok (.invokevirtual 29, 3) := dk_182 0 29 (dk_at dksX21_meets_0 13 rfl rfl)
theorem dX21_meets_16 : decode cX21_meets 16 = .ok (.ifCond .ne 4, 3) := dk_154 0 4 (dk_at dksX21_meets_0 16 rfl rfl)
theorem dX21_meets_19 : decode cX21_meets 19 = .ok (.return_, 1) := dk_177 (dk_at dksX21_meets_0 19 rfl rfl)
theorem dX21_meets_20 : decode cX21_meets 20 = .ok (.aload_n 0, 1) := dk_42 (dk_at dksX21_meets_0 20 rfl rfl)
theorem dX21_meets_21 : decode cX21_meets 21 = .ok (.aload_n 0, 1) := dk_42 (dk_at dksX21_meets_0 21 rfl rfl)
theorem dX21_meets_22 : decode cX21_meets 22 = .ok (.getfield 17, 3) := dk_180 0 17 (dk_at dksX21_meets_1 0 rfl rfl)
theorem dX21_meets_25 : decode cX21_meets 25 = .ok (.iconst 2, 1) := dk_5 (dk_at dksX21_meets_1 3 rfl rfl)
theorem dX21_meets_26 : decode cX21_meets 26 = .ok (.if_icmp .ne 16, 3) := dk_160 0 16 (dk_at dksX21_meets_1 4 rfl rfl)
theorem dX21_meets_29 : decode cX21_meets 29 = .ok (.lconst 0, 1) := dk_9 (dk_at dksX21_meets_1 7 rfl rfl)
theorem dX21_meets_30 : decode cX21_meets 30 = .ok (.aload_n 0, 1) := dk_42 (dk_at dksX21_meets_1 8 rfl rfl)
theorem dX21_meets_31 : decode cX21_meets 31 = .ok (.getfield 11, 3) := dk_180 0 11 (dk_at dksX21_meets_1 9 rfl rfl)
theorem dX21_meets_34 : decode cX21_meets 34 = .ok (.invokestatic 35, 3) := dk_184 0 35 (dk_at dksX21_meets_1 12 rfl rfl)
theorem dX21_meets_37 : decode cX21_meets 37 = .ok (.lconst 1, 1) := dk_10 (dk_at dksX21_meets_1 15 rfl rfl)
theorem dX21_meets_38 : decode cX21_meets 38 = .ok (.ladd, 1) := dk_97 (dk_at dksX21_meets_1 16 rfl rfl)
theorem dX21_meets_39 : decode cX21_meets 39 = .ok (.goto 26, 3) := dk_167 0 26 (dk_at dksX21_meets_1 17 rfl rfl)
theorem dX21_meets_42 : decode cX21_meets 42 = .ok (.aload_n 0, 1) := dk_42 (dk_at dksX21_meets_1 20 rfl rfl)
theorem dX21_meets_43 : decode cX21_meets 43 = .ok (.getfield 17, 3) := dk_180 0 17 (dk_at dksX21_meets_1 21 rfl rfl)
theorem dX21_meets_46 : decode cX21_meets 46 = .ok (.ifCond .ne 17, 3) := dk_154 0 17 (dk_at dksX21_meets_2 0 rfl rfl)
theorem dX21_meets_49 : decode cX21_meets 49 = .ok (.aload_n 0, 1) := dk_42 (dk_at dksX21_meets_2 3 rfl rfl)
theorem dX21_meets_50 : decode cX21_meets 50 = .ok (.getfield 41, 3) := dk_180 0 41 (dk_at dksX21_meets_2 4 rfl rfl)
theorem dX21_meets_53 : decode cX21_meets 53 = .ok (.ifCond .eq 10, 3) := dk_153 0 10 (dk_at dksX21_meets_2 7 rfl rfl)
theorem dX21_meets_56 : decode cX21_meets 56 = .ok (.aload_n 0, 1) := dk_42 (dk_at dksX21_meets_2 10 rfl rfl)
theorem dX21_meets_57 : decode cX21_meets 57 = .ok (.getfield 11, 3) := dk_180 0 11 (dk_at dksX21_meets_2 11 rfl rfl)
theorem dX21_meets_60 : decode cX21_meets 60 = .ok (.goto 5, 3) := dk_167 0 5 (dk_at dksX21_meets_2 14 rfl rfl)
theorem dX21_meets_63 : decode cX21_meets 63 = .ok (.iload_n 1, 1) := dk_27 (dk_at dksX21_meets_2 17 rfl rfl)
theorem dX21_meets_64 : decode cX21_meets 64 = .ok (.i2l, 1) := dk_133 (dk_at dksX21_meets_2 18 rfl rfl)
theorem dX21_meets_65 : decode cX21_meets 65 = .ok (.putfield 11, 3) := dk_181 0 11 (dk_at dksX21_meets_2 19 rfl rfl)
theorem dX21_meets_68 : decode cX21_meets 68 = .ok (.aload_n 0, 1) := dk_42 (dk_at dksX21_meets_2 22 rfl rfl)
theorem dX21_meets_69 : decode cX21_meets 69 = .ok (.iconst 1, 1) := dk_4 (dk_at dksX21_meets_2 23 rfl rfl)
theorem dX21_meets_70 : decode cX21_meets 70 = .ok (.putfield 41, 3) := dk_181 0 41 (dk_at dksX21_meets_3 0 rfl rfl)
theorem dX21_meets_73 : decode cX21_meets 73 = .ok (.return_, 1) := dk_177 (dk_at dksX21_meets_3 3 rfl rfl)
theorem dX21_meets_74 : decode cX21_meets 74 = .ok (.aload_n 0, 1) := dk_42 (dk_at dksX21_meets_3 4 rfl rfl)
theorem dX21_meets_75 : decode cX21_meets 75 = .ok (.getfield 25, 3) := dk_180 0 25 (dk_at dksX21_meets_3 5 rfl rfl)
theorem dX21_meets_78 : decode cX21_meets 78 = .ok (.aload_n 2, 1) := dk_44 (dk_at dksX21_meets_3 8 rfl rfl)
theorem dX21_meets_79 : decode cX21_meets 79 = .ok (.invokevirtual 45, 3) := dk_182 0 45 (dk_at dksX21_meets_3 9 rfl rfl)
theorem dX21_meets_82 : decode cX21_meets 82 = .ok (.lstore_n 3, 1) := dk_66 (dk_at dksX21_meets_3 12 rfl rfl)
theorem dX21_meets_83 : decode cX21_meets 83 = .ok (.aload_n 0, 1) := dk_42 (dk_at dksX21_meets_3 13 rfl rfl)
theorem dX21_meets_84 : decode cX21_meets 84 = .ok (.aload_n 0, 1) := dk_42 (dk_at dksX21_meets_3 14 rfl rfl)
theorem dX21_meets_85 : decode cX21_meets 85 = .ok (.getfield 41, 3) := dk_180 0 41 (dk_at dksX21_meets_3 15 rfl rfl)
theorem dX21_meets_88 : decode cX21_meets 88 = .ok (.ifCond .ne 7, 3) := dk_154 0 7 (dk_at dksX21_meets_3 18 rfl rfl)
theorem dX21_meets_91 : decode cX21_meets 91 = .ok (.lload_n 3, 1) := dk_33 (dk_at dksX21_meets_3 21 rfl rfl)
theorem dX21_meets_92 : decode cX21_meets 92 = .ok (.goto 47, 3) := dk_167 0 47 (dk_at dksX21_meets_4 0 rfl rfl)
theorem dX21_meets_95 : decode cX21_meets 95 = .ok (.aload_n 0, 1) := dk_42 (dk_at dksX21_meets_4 3 rfl rfl)
theorem dX21_meets_96 : decode cX21_meets 96 = .ok (.getfield 17, 3) := dk_180 0 17 (dk_at dksX21_meets_4 4 rfl rfl)
theorem dX21_meets_99 : decode cX21_meets 99 = .ok (.iconst 3, 1) := dk_6 (dk_at dksX21_meets_4 7 rfl rfl)
theorem dX21_meets_100 : decode cX21_meets 100 = .ok (.if_icmp .ne 12, 3) := dk_160 0 12 (dk_at dksX21_meets_4 8 rfl rfl)
theorem dX21_meets_103 : decode cX21_meets 103 = .ok (.aload_n 0, 1) := dk_42 (dk_at dksX21_meets_4 11 rfl rfl)
theorem dX21_meets_104 : decode cX21_meets 104 = .ok (.getfield 11, 3) := dk_180 0 11 (dk_at dksX21_meets_4 12 rfl rfl)
theorem dX21_meets_107 : decode cX21_meets 107 = .ok (.lload_n 3, 1) := dk_33 (dk_at dksX21_meets_4 15 rfl rfl)
theorem dX21_meets_108 : decode cX21_meets 108 = .ok (.ladd, 1) := dk_97 (dk_at dksX21_meets_4 16 rfl rfl)
theorem dX21_meets_109 : decode cX21_meets 109 = .ok (.goto 30, 3) := dk_167 0 30 (dk_at dksX21_meets_4 17 rfl rfl)
theorem dX21_meets_112 : decode cX21_meets 112 = .ok (.aload_n 0, 1) := dk_42 (dk_at dksX21_meets_4 20 rfl rfl)
theorem dX21_meets_113 : decode cX21_meets 113 = .ok (.getfield 17, 3) := dk_180 0 17 (dk_at dksX21_meets_4 21 rfl rfl)
theorem dX21_meets_116 : decode cX21_meets 116 = .ok (.iconst 4, 1) := dk_7 (dk_at dksX21_meets_5 0 rfl rfl)
theorem dX21_meets_117 : decode cX21_meets 117 = .ok (.if_icmp .ne 14, 3) := dk_160 0 14 (dk_at dksX21_meets_5 1 rfl rfl)
theorem dX21_meets_120 : decode cX21_meets 120 = .ok (.aload_n 0, 1) := dk_42 (dk_at dksX21_meets_5 4 rfl rfl)
theorem dX21_meets_121 : decode cX21_meets 121 = .ok (.getfield 11, 3) := dk_180 0 11 (dk_at dksX21_meets_5 5 rfl rfl)
theorem dX21_meets_124 : decode cX21_meets 124 = .ok (.lload_n 3, 1) := dk_33 (dk_at dksX21_meets_5 8 rfl rfl)
theorem dX21_meets_125 : decode cX21_meets 125 = .ok (.invokestatic 35, 3) := dk_184 0 35 (dk_at dksX21_meets_5 9 rfl rfl)
theorem dX21_meets_128 : decode cX21_meets 128 = .ok (.goto 11, 3) := dk_167 0 11 (dk_at dksX21_meets_5 12 rfl rfl)
theorem dX21_meets_131 : decode cX21_meets 131 = .ok (.aload_n 0, 1) := dk_42 (dk_at dksX21_meets_5 15 rfl rfl)
theorem dX21_meets_132 : decode cX21_meets 132 = .ok (.getfield 11, 3) := dk_180 0 11 (dk_at dksX21_meets_5 16 rfl rfl)
theorem dX21_meets_135 : decode cX21_meets 135 = .ok (.lload_n 3, 1) := dk_33 (dk_at dksX21_meets_5 19 rfl rfl)
theorem dX21_meets_136 : decode cX21_meets 136 = .ok (.invokestatic 51, 3) := dk_184 0 51 (dk_at dksX21_meets_5 20 rfl rfl)
theorem dX21_meets_139 : decode cX21_meets 139 = .ok (.putfield 11, 3) := dk_181 0 11 (dk_at dksX21_meets_6 0 rfl rfl)
theorem dX21_meets_142 : decode cX21_meets 142 = .ok (.aload_n 0, 1) := dk_42 (dk_at dksX21_meets_6 3 rfl rfl)
theorem dX21_meets_143 : decode cX21_meets 143 = .ok (.iconst 1, 1) := dk_4 (dk_at dksX21_meets_6 4 rfl rfl)
theorem dX21_meets_144 : decode cX21_meets 144 = .ok (.putfield 41, 3) := dk_181 0 41 (dk_at dksX21_meets_6 5 rfl rfl)
theorem dX21_meets_147 : decode cX21_meets 147 = .ok (.return_, 1) := dk_177 (dk_at dksX21_meets_6 8 rfl rfl)
abbrev cX21_answer : ByteArray := prog_16_method_3_code
def yX21_answer : MethodName := ⟨RX21, "answer", "()J"⟩
def dkwX21_answer_0 : List UInt8 := [42, 180, 0, 41, 154, 0, 11, 42, 180, 0, 17, 5, 162, 0, 10, 42, 180, 0, 11, 167, 0, 4, 9, 173]
abbrev dktX21_answer_0 : List UInt8 := dkwX21_answer_0 ++ []
theorem dksX21_answer_0 : cX21_answer.data.toList.drop 0 = dktX21_answer_0 := by decide +kernel
theorem dX21_answer_0 : decode cX21_answer 0 = .ok (.aload_n 0, 1) := dk_42 (dk_at dksX21_answer_0 0 rfl rfl)
theorem dX21_answer_1 : decode cX21_answer 1 = .ok (.getfield 41, 3) := dk_180 0 41 (dk_at dksX21_answer_0 1 rfl rfl)
theorem dX21_answer_4 : decode cX21_answer 4 = .ok (.ifCond .ne 11, 3) := dk_154 0 11 (dk_at dksX21_answer_0 4 rfl rfl)
theorem dX21_answer_7 : decode cX21_answer 7 = .ok (.aload_n 0, 1) := dk_42 (dk_at dksX21_answer_0 7 rfl rfl)
theorem dX21_answer_8 : decode cX21_answer 8 = .ok (.getfield 17, 3) := dk_180 0 17 (dk_at dksX21_answer_0 8 rfl rfl)
theorem dX21_answer_11 : decode cX21_answer 11 = .ok (.iconst 2, 1) := dk_5 (dk_at dksX21_answer_0 11 rfl rfl)
theorem dX21_answer_12 : decode cX21_answer 12 = .ok (.if_icmp .ge 10, 3) := dk_162 0 10 (dk_at dksX21_answer_0 12 rfl rfl)
theorem dX21_answer_15 : decode cX21_answer 15 = .ok (.aload_n 0, 1) := dk_42 (dk_at dksX21_answer_0 15 rfl rfl)
theorem dX21_answer_16 : decode cX21_answer 16 = .ok (.getfield 11, 3) := dk_180 0 11 (dk_at dksX21_answer_0 16 rfl rfl)
theorem dX21_answer_19 : decode cX21_answer 19 = .ok (.goto 4, 3) := dk_167 0 4 (dk_at dksX21_answer_0 19 rfl rfl)
theorem dX21_answer_22 : decode cX21_answer 22 = .ok (.lconst 0, 1) := dk_9 (dk_at dksX21_answer_0 22 rfl rfl)
theorem dX21_answer_23 : decode cX21_answer 23 = .ok (.lreturn, 1) := dk_173 (dk_at dksX21_answer_0 23 rfl rfl)
theorem q206 : (Jvm.Cond.initialized "FourOnOne$Question") ∈ lw_all := lw_g (lw_at lw_m1 40 rfl) rfl
theorem q882 : (Jvm.Cond.selects "FourOnOne$Question" ({ cls := "java/lang/Object", name := "getClass", desc := "()Ljava/lang/Class;" } : Jvm.MethodName) ({ cls := "java/lang/Object", name := "getClass", desc := "()Ljava/lang/Class;" } : Jvm.MethodName)) ∈ lw_all := lw_g (lw_at lw_m3 236 rfl) rfl
theorem q1656 : (Jvm.Cond.instantiable "FourOnOne$Question" (5 : Nat)) ∈ lw_all := lw_g (lw_at lw_m7 50 rfl) rfl
theorem q1658 : (Jvm.Cond.instanceMethod ({ cls := "FourOnOne$Question", name := "<init>", desc := "(ILFourOnOne$Test;LFourOnOne$Value;)V" } : Jvm.MethodName)) ∈ lw_all := lw_g (lw_at lw_m7 52 rfl) rfl
theorem q1659 : (Jvm.Cond.code ({ cls := "FourOnOne$Question", name := "<init>", desc := "(ILFourOnOne$Test;LFourOnOne$Value;)V" } : Jvm.MethodName) prog_16_method_1_code (4 : Nat) (Option.none : Option Jvm.ClassFile.FieldType)) ∈ lw_all := lw_g (lw_at lw_m7 53 rfl) rfl
theorem q1660 : (Jvm.Cond.methodLink "FourOnOne$Question" (3 : Nat) ({ cls := "java/lang/Object", name := "<init>", desc := "()V" } : Jvm.MethodName)) ∈ lw_all := lw_g (lw_at lw_m7 54 rfl) rfl
theorem q1661 : (Jvm.Cond.constantLong "FourOnOne$Question" (9 : Nat) (-1 : Int64)) ∈ lw_all := lw_g (lw_at lw_m7 55 rfl) rfl
theorem q1662 : (Jvm.Cond.fieldLink "FourOnOne$Question" (17 : Nat) "FourOnOne$Question" "what" "I") ∈ lw_all := lw_g (lw_at lw_m7 56 rfl) rfl
theorem q1663 : (Jvm.Cond.fieldLink "FourOnOne$Question" (21 : Nat) "FourOnOne$Question" "test" "LFourOnOne$Test;") ∈ lw_all := lw_g (lw_at lw_m7 57 rfl) rfl
theorem q1664 : (Jvm.Cond.fieldLink "FourOnOne$Question" (25 : Nat) "FourOnOne$Question" "sum" "LFourOnOne$Value;") ∈ lw_all := lw_g (lw_at lw_m7 58 rfl) rfl
theorem q1665 : (Jvm.Cond.fieldLink "FourOnOne$Question" (11 : Nat) "FourOnOne$Question" "found" "J") ∈ lw_all := lw_g (lw_at lw_m7 59 rfl) rfl
theorem q1666 : (Jvm.Cond.fieldLink "FourOnOne$Question" (41 : Nat) "FourOnOne$Question" "has" "Z") ∈ lw_all := lw_g (lw_at lw_m7 60 rfl) rfl
theorem q1667 : (Jvm.Cond.laysFinal "FourOnOne$Question" "FourOnOne$Question" "what" "I") ∈ lw_all := lw_g (lw_at lw_m7 61 rfl) rfl
theorem q1668 : (Jvm.Cond.soleField "FourOnOne$Question" "what") ∈ lw_all := lw_g (lw_at lw_m7 62 rfl) rfl
theorem q1669 : (Jvm.Cond.laysFinal "FourOnOne$Question" "FourOnOne$Question" "test" "LFourOnOne$Test;") ∈ lw_all := lw_g (lw_at lw_m7 63 rfl) rfl
theorem q1670 : (Jvm.Cond.soleField "FourOnOne$Question" "test") ∈ lw_all := lw_g (lw_at lw_m7 64 rfl) rfl
theorem q1671 : (Jvm.Cond.laysFinal "FourOnOne$Question" "FourOnOne$Question" "sum" "LFourOnOne$Value;") ∈ lw_all := lw_g (lw_at lw_m7 65 rfl) rfl
theorem q1672 : (Jvm.Cond.soleField "FourOnOne$Question" "sum") ∈ lw_all := lw_g (lw_at lw_m7 66 rfl) rfl
theorem q1673 : (Jvm.Cond.lays "FourOnOne$Question" "FourOnOne$Question" "found" "J") ∈ lw_all := lw_g (lw_at lw_m7 67 rfl) rfl
theorem q1674 : (Jvm.Cond.soleField "FourOnOne$Question" "found") ∈ lw_all := lw_g (lw_at lw_m7 68 rfl) rfl
theorem q1675 : (Jvm.Cond.lays "FourOnOne$Question" "FourOnOne$Question" "has" "Z") ∈ lw_all := lw_g (lw_at lw_m7 69 rfl) rfl
theorem q1676 : (Jvm.Cond.soleField "FourOnOne$Question" "has") ∈ lw_all := lw_g (lw_at lw_m7 70 rfl) rfl
theorem q1677 : (Jvm.Cond.superclass "FourOnOne$Question" "java/lang/Object") ∈ lw_all := lw_g (lw_at lw_m7 71 rfl) rfl
theorem q1680 : (Jvm.Cond.instanceMethod ({ cls := "FourOnOne$Question", name := "meets", desc := "(ILFourOnOne$Moment;)V" } : Jvm.MethodName)) ∈ lw_all := lw_g (lw_at lw_m7 74 rfl) rfl
theorem q1681 : (Jvm.Cond.selects "FourOnOne$Question" ({ cls := "FourOnOne$Question", name := "meets", desc := "(ILFourOnOne$Moment;)V" } : Jvm.MethodName) ({ cls := "FourOnOne$Question", name := "meets", desc := "(ILFourOnOne$Moment;)V" } : Jvm.MethodName)) ∈ lw_all := lw_g (lw_at lw_m7 75 rfl) rfl
theorem q1682 : (Jvm.Cond.code ({ cls := "FourOnOne$Question", name := "meets", desc := "(ILFourOnOne$Moment;)V" } : Jvm.MethodName) prog_16_method_2_code (5 : Nat) (Option.none : Option Jvm.ClassFile.FieldType)) ∈ lw_all := lw_g (lw_at lw_m7 76 rfl) rfl
theorem q1683 : (Jvm.Cond.methodLink "FourOnOne$Question" (29 : Nat) ({ cls := "FourOnOne$Test", name := "holds", desc := "(LFourOnOne$Moment;)Z" } : Jvm.MethodName)) ∈ lw_all := lw_g (lw_at lw_m7 77 rfl) rfl
theorem q1684 : (Jvm.Cond.methodLink "FourOnOne$Question" (35 : Nat) ({ cls := "java/lang/Math", name := "max", desc := "(JJ)J" } : Jvm.MethodName)) ∈ lw_all := lw_g (lw_at lw_m7 78 rfl) rfl
theorem q1685 : (Jvm.Cond.methodLink "FourOnOne$Question" (45 : Nat) ({ cls := "FourOnOne$Value", name := "at", desc := "(LFourOnOne$Moment;)J" } : Jvm.MethodName)) ∈ lw_all := lw_g (lw_at lw_m7 79 rfl) rfl
theorem q1686 : (Jvm.Cond.methodLink "FourOnOne$Question" (51 : Nat) ({ cls := "java/lang/Math", name := "min", desc := "(JJ)J" } : Jvm.MethodName)) ∈ lw_all := lw_g (lw_at lw_m7 80 rfl) rfl
theorem q1688 : (Jvm.Cond.instanceMethod ({ cls := "FourOnOne$Question", name := "answer", desc := "()J" } : Jvm.MethodName)) ∈ lw_all := lw_g (lw_at lw_m7 82 rfl) rfl
theorem q1689 : (Jvm.Cond.selects "FourOnOne$Question" ({ cls := "FourOnOne$Question", name := "answer", desc := "()J" } : Jvm.MethodName) ({ cls := "FourOnOne$Question", name := "answer", desc := "()J" } : Jvm.MethodName)) ∈ lw_all := lw_g (lw_at lw_m7 83 rfl) rfl
theorem q1690 : (Jvm.Cond.code ({ cls := "FourOnOne$Question", name := "answer", desc := "()J" } : Jvm.MethodName) prog_16_method_3_code (1 : Nat) (Option.some Jvm.ClassFile.FieldType.long)) ∈ lw_all := lw_g (lw_at lw_m7 84 rfl) rfl
theorem q2669 : (Jvm.Cond.castable "FourOnOne$Question" "java/lang/Object") ∈ lw_tbl := lw_at lw_m11 103 rfl
theorem in_X21 : ∀ w ∈ wsX210, w ∈ lw_all := lw_in wsX210 [1667, 1669, 1671, 1673, 1675] (by decide +kernel) (by decide +kernel)
