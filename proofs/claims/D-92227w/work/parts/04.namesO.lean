/-! RoadHouses$Fault -/
set_option maxRecDepth 100000
def RX1 : String := "RoadHouses$Fault"
def TX1 : u_T := fun k => match k with
  | 0 => ("java/lang/Throwable", "cause", "Ljava/lang/Throwable;", false)
  | 1 => ("java/lang/Throwable", "stackTrace", "[Ljava/lang/StackTraceElement;", false)
  | 2 => ("java/lang/Throwable", "suppressedExceptions", "Ljava/util/List;", false)
  | 3 => ("java/lang/Throwable", "detailMessage", "Ljava/lang/String;", false)
  | 4 => ("java/lang/Throwable", "backtrace", "Ljava/lang/Object;", false)
  | 5 => ("java/lang/Throwable", "depth", "I", false)
  | _ => ("RoadHouses$Fault", "place", "I", false)
def tyX1 : Nat → FieldType := fun k => match k with
  | 0 => .object "java/lang/Throwable"
  | 1 => .array (.object "java/lang/StackTraceElement")
  | 2 => .object "java/util/List"
  | 3 => .object "java/lang/String"
  | 4 => .object "java/lang/Object"
  | 5 => .int
  | _ => .int
abbrev wsX10 : List Cond := u_ws RX1 TX1 7
theorem nmX1 : ∀ a, a < 7 → ∀ b, b < 7 → a ≠ b → (TX1 a).2.1 ≠ (TX1 b).2.1 := by decide +kernel
theorem tyX1_ok : ∀ k, k < 7 → parseFieldDescriptor (TX1 k).2.2.1 = some (tyX1 k) := by decide +kernel
abbrev cX1_init : ByteArray := prog_5_method_1_code
def yX1_init : MethodName := ⟨RX1, "<init>", "()V"⟩
def dkwX1_init_0 : List UInt8 := [42, 1, 1, 3, 3, 183, 0, 1, 177]
abbrev dktX1_init_0 : List UInt8 := dkwX1_init_0 ++ []
theorem dksX1_init_0 : cX1_init.data.toList.drop 0 = dktX1_init_0 := by decide +kernel
theorem dX1_init_0 : decode cX1_init 0 = .ok (.aload_n 0, 1) := dk_42 (dk_at dksX1_init_0 0 rfl rfl)
theorem dX1_init_1 : decode cX1_init 1 = .ok (.aconst_null, 1) := dk_1 (dk_at dksX1_init_0 1 rfl rfl)
theorem dX1_init_2 : decode cX1_init 2 = .ok (.aconst_null, 1) := dk_1 (dk_at dksX1_init_0 2 rfl rfl)
theorem dX1_init_3 : decode cX1_init 3 = .ok (.iconst 0, 1) := dk_3 (dk_at dksX1_init_0 3 rfl rfl)
theorem dX1_init_4 : decode cX1_init 4 = .ok (.iconst 0, 1) := dk_3 (dk_at dksX1_init_0 4 rfl rfl)
theorem dX1_init_5 : decode cX1_init 5 = .ok (.invokespecial 1, 3) := dk_183 0 1 (dk_at dksX1_init_0 5 rfl rfl)
theorem dX1_init_8 : decode cX1_init 8 = .ok (.return_, 1) := dk_177 (dk_at dksX1_init_0 8 rfl rfl)
theorem q88 : (Jvm.Cond.initialized "RoadHouses$Fault") ∈ lw_all := lw_g (lw_at lw_m1 7 rfl) rfl
theorem q160 : (Jvm.Cond.instantiable "RoadHouses$Fault" (7 : Nat)) ∈ lw_all := lw_g (lw_at lw_m1 79 rfl) rfl
theorem q161 : (Jvm.Cond.castable "RoadHouses$Fault" "RoadHouses$Fault") ∈ lw_tbl := lw_at lw_m1 80 rfl
theorem q166 : (Jvm.Cond.selects "RoadHouses$Fault" ({ cls := "java/lang/Throwable", name := "fillInStackTrace", desc := "(I)Ljava/lang/Throwable;" } : Jvm.MethodName) ({ cls := "java/lang/Throwable", name := "fillInStackTrace", desc := "(I)Ljava/lang/Throwable;" } : Jvm.MethodName)) ∈ lw_all := lw_g (lw_at lw_m1 85 rfl) rfl
theorem q167 : (Jvm.Cond.selects "RoadHouses$Fault" ({ cls := "java/lang/Throwable", name := "fillInStackTrace", desc := "()Ljava/lang/Throwable;" } : Jvm.MethodName) ({ cls := "java/lang/Throwable", name := "fillInStackTrace", desc := "()Ljava/lang/Throwable;" } : Jvm.MethodName)) ∈ lw_all := lw_g (lw_at lw_m1 86 rfl) rfl
theorem q168 : (Jvm.Cond.lays "RoadHouses$Fault" "java/lang/Throwable" "cause" "Ljava/lang/Throwable;") ∈ lw_all := lw_g (lw_at lw_m1 87 rfl) rfl
theorem q170 : (Jvm.Cond.lays "RoadHouses$Fault" "java/lang/Throwable" "stackTrace" "[Ljava/lang/StackTraceElement;") ∈ lw_all := lw_g (lw_at lw_m1 89 rfl) rfl
theorem q172 : (Jvm.Cond.lays "RoadHouses$Fault" "java/lang/Throwable" "suppressedExceptions" "Ljava/util/List;") ∈ lw_all := lw_g (lw_at lw_m1 91 rfl) rfl
theorem q174 : (Jvm.Cond.lays "RoadHouses$Fault" "java/lang/Throwable" "detailMessage" "Ljava/lang/String;") ∈ lw_all := lw_g (lw_at lw_m1 93 rfl) rfl
theorem q176 : (Jvm.Cond.lays "RoadHouses$Fault" "java/lang/Throwable" "backtrace" "Ljava/lang/Object;") ∈ lw_all := lw_g (lw_at lw_m1 95 rfl) rfl
theorem q215 : (Jvm.Cond.instanceMethod ({ cls := "RoadHouses$Fault", name := "<init>", desc := "()V" } : Jvm.MethodName)) ∈ lw_all := lw_g (lw_at lw_m1 134 rfl) rfl
theorem q216 : (Jvm.Cond.code ({ cls := "RoadHouses$Fault", name := "<init>", desc := "()V" } : Jvm.MethodName) prog_5_method_1_code (1 : Nat) (Option.none : Option Jvm.ClassFile.FieldType)) ∈ lw_all := lw_g (lw_at lw_m1 135 rfl) rfl
theorem q217 : (Jvm.Cond.methodLink "RoadHouses$Fault" (1 : Nat) ({ cls := "java/lang/Exception", name := "<init>", desc := "(Ljava/lang/String;Ljava/lang/Throwable;ZZ)V" } : Jvm.MethodName)) ∈ lw_all := lw_g (lw_at lw_m1 136 rfl) rfl
theorem q229 : (Jvm.Cond.lays "RoadHouses$Fault" "RoadHouses$Fault" "place" "I") ∈ lw_all := lw_g (lw_at lw_m1 148 rfl) rfl
theorem q230 : (Jvm.Cond.soleField "RoadHouses$Fault" "place") ∈ lw_all := lw_g (lw_at lw_m1 149 rfl) rfl
theorem q235 : (Jvm.Cond.lays "RoadHouses$Fault" "java/lang/Throwable" "depth" "I") ∈ lw_all := lw_g (lw_at lw_m1 154 rfl) rfl
theorem q238 : (Jvm.Cond.superclass "RoadHouses$Fault" "java/lang/Exception") ∈ lw_all := lw_g (lw_at lw_m1 157 rfl) rfl
theorem q418 : (Jvm.Cond.selects "RoadHouses$Fault" ({ cls := "java/lang/Object", name := "getClass", desc := "()Ljava/lang/Class;" } : Jvm.MethodName) ({ cls := "java/lang/Object", name := "getClass", desc := "()Ljava/lang/Class;" } : Jvm.MethodName)) ∈ lw_all := lw_g (lw_at lw_m2 97 rfl) rfl
theorem q2006 : (Jvm.Cond.castable "RoadHouses$Fault" "java/lang/Object") ∈ lw_tbl := lw_at lw_m9 5 rfl
theorem in_X1 : ∀ w ∈ wsX10, w ∈ lw_all := lw_in wsX10 [168, 170, 172, 174, 176, 235, 229] (by decide +kernel) (by decide +kernel)
/-! RoadHouses$Sheet -/
set_option maxRecDepth 100000
def RX2 : String := "RoadHouses$Sheet"
def TX2 : u_T := fun k => match k with
  | _ => ("RoadHouses$Sheet", "row", "Ljava/lang/Object;", false)
def tyX2 : Nat → FieldType := fun k => match k with
  | _ => .object "java/lang/Object"
abbrev wsX20 : List Cond := u_ws RX2 TX2 1
theorem nmX2 : ∀ a, a < 1 → ∀ b, b < 1 → a ≠ b → (TX2 a).2.1 ≠ (TX2 b).2.1 := by decide +kernel
theorem tyX2_ok : ∀ k, k < 1 → parseFieldDescriptor (TX2 k).2.2.1 = some (tyX2 k) := by decide +kernel
abbrev cX2_init : ByteArray := prog_13_method_1_code
def yX2_init : MethodName := ⟨RX2, "<init>", "()V"⟩
theorem dX2_init_0 : decode cX2_init 0 = .ok (.aload_n 0, 1) := by decide +kernel
theorem dX2_init_1 : decode cX2_init 1 = .ok (.invokespecial 1, 3) := by decide +kernel
theorem dX2_init_4 : decode cX2_init 4 = .ok (.return_, 1) := by decide +kernel
abbrev cX2_size : ByteArray := prog_13_method_2_code
def yX2_size : MethodName := ⟨RX2, "size", "()I"⟩
def dkwX2_size_2 : List UInt8 := [192, 0, 17, 190, 172]
abbrev dktX2_size_2 : List UInt8 := dkwX2_size_2 ++ []
def dkwX2_size_1 : List UInt8 := [77, 44, 193, 0, 15, 153, 0, 13, 44, 192, 0, 15, 76, 43, 190, 167, 0, 11, 42, 180, 0, 7]
abbrev dktX2_size_1 : List UInt8 := dkwX2_size_1 ++ dktX2_size_2
def dkwX2_size_0 : List UInt8 := [42, 180, 0, 7, 77, 44, 193, 0, 13, 153, 0, 11, 44, 192, 0, 13, 76, 43, 190, 172, 42, 180, 0, 7]
abbrev dktX2_size_0 : List UInt8 := dkwX2_size_0 ++ dktX2_size_1
theorem dksX2_size_0 : cX2_size.data.toList.drop 0 = dktX2_size_0 := by decide +kernel
theorem dksX2_size_1 : cX2_size.data.toList.drop 24 = dktX2_size_1 := dk_seg dksX2_size_0 24 rfl rfl
theorem dksX2_size_2 : cX2_size.data.toList.drop 46 = dktX2_size_2 := dk_seg dksX2_size_1 22 rfl rfl
theorem dX2_size_0 : decode cX2_size 0 = .ok (.aload_n 0, 1) := dk_42 (dk_at dksX2_size_0 0 rfl rfl)
theorem dX2_size_1 : decode cX2_size 1 = .ok (.getfield 7, 3) := dk_180 0 7 (dk_at dksX2_size_0 1 rfl rfl)
theorem dX2_size_4 : decode cX2_size 4 = .ok (.astore_n 2, 1) := dk_77 (dk_at dksX2_size_0 4 rfl rfl)
theorem dX2_size_5 : decode cX2_size 5 = .ok (.aload_n 2, 1) := dk_44 (dk_at dksX2_size_0 5 rfl rfl)
theorem dX2_size_6 : decode cX2_size 6 = .ok (.instanceof 13, 3) := dk_193 0 13 (dk_at dksX2_size_0 6 rfl rfl)
theorem dX2_size_9 : decode cX2_size 9 = .ok (.ifCond .eq 11, 3) := dk_153 0 11 (dk_at dksX2_size_0 9 rfl rfl)
theorem dX2_size_12 : decode cX2_size 12 = .ok (.aload_n 2, 1) := dk_44 (dk_at dksX2_size_0 12 rfl rfl)
theorem dX2_size_13 : decode cX2_size 13 = .ok (.checkcast 13, 3) := dk_192 0 13 (dk_at dksX2_size_0 13 rfl rfl)
theorem dX2_size_16 : decode cX2_size 16 = .ok (.astore_n 1, 1) := dk_76 (dk_at dksX2_size_0 16 rfl rfl)
theorem dX2_size_17 : decode cX2_size 17 = .ok (.aload_n 1, 1) := dk_43 (dk_at dksX2_size_0 17 rfl rfl)
theorem dX2_size_18 : decode cX2_size 18 = .ok (.arraylength, 1) := dk_190 (dk_at dksX2_size_0 18 rfl rfl)
theorem dX2_size_19 : decode cX2_size 19 = .ok (.ireturn, 1) := dk_172 (dk_at dksX2_size_0 19 rfl rfl)
theorem dX2_size_20 : decode cX2_size 20 = .ok (.aload_n 0, 1) := dk_42 (dk_at dksX2_size_0 20 rfl rfl)
theorem dX2_size_21 : decode cX2_size 21 = .ok (.getfield 7, 3) := dk_180 0 7 (dk_at dksX2_size_0 21 rfl rfl)
theorem dX2_size_24 : decode cX2_size 24 = .ok (.astore_n 2, 1) := dk_77 (dk_at dksX2_size_1 0 rfl rfl)
theorem dX2_size_25 : decode cX2_size 25 = .ok (.aload_n 2, 1) := dk_44 (dk_at dksX2_size_1 1 rfl rfl)
theorem dX2_size_26 : decode cX2_size 26 = .ok (.instanceof 15, 3) := dk_193 0 15 (dk_at dksX2_size_1 2 rfl rfl)
theorem dX2_size_29 : decode cX2_size 29 = .ok (.ifCond .eq 13, 3) := dk_153 0 13 (dk_at dksX2_size_1 5 rfl rfl)
theorem dX2_size_32 : decode cX2_size 32 = .ok (.aload_n 2, 1) := dk_44 (dk_at dksX2_size_1 8 rfl rfl)
theorem dX2_size_33 : decode cX2_size 33 = .ok (.checkcast 15, 3) := dk_192 0 15 (dk_at dksX2_size_1 9 rfl rfl)
theorem dX2_size_36 : decode cX2_size 36 = .ok (.astore_n 1, 1) := dk_76 (dk_at dksX2_size_1 12 rfl rfl)
theorem dX2_size_37 : decode cX2_size 37 = .ok (.aload_n 1, 1) := dk_43 (dk_at dksX2_size_1 13 rfl rfl)
theorem dX2_size_38 : decode cX2_size 38 = .ok (.arraylength, 1) := dk_190 (dk_at dksX2_size_1 14 rfl rfl)
theorem dX2_size_39 : decode cX2_size 39 = .ok (.goto 11, 3) := dk_167 0 11 (dk_at dksX2_size_1 15 rfl rfl)
theorem dX2_size_42 : decode cX2_size 42 = .ok (.aload_n 0, 1) := dk_42 (dk_at dksX2_size_1 18 rfl rfl)
theorem dX2_size_43 : decode cX2_size 43 = .ok (.getfield 7, 3) := dk_180 0 7 (dk_at dksX2_size_1 19 rfl rfl)
theorem dX2_size_46 : decode cX2_size 46 = .ok (.checkcast 17, 3) := dk_192 0 17 (dk_at dksX2_size_2 0 rfl rfl)
theorem dX2_size_49 : decode cX2_size 49 = .ok (.arraylength, 1) := dk_190 (dk_at dksX2_size_2 3 rfl rfl)
theorem dX2_size_50 : decode cX2_size 50 = .ok (.ireturn, 1) := dk_172 (dk_at dksX2_size_2 4 rfl rfl)
theorem q89 : (Jvm.Cond.initialized "RoadHouses$Sheet") ∈ lw_all := lw_g (lw_at lw_m1 8 rfl) rfl
theorem q242 : (Jvm.Cond.instantiable "RoadHouses$Sheet" (1 : Nat)) ∈ lw_all := lw_g (lw_at lw_m1 161 rfl) rfl
theorem q244 : (Jvm.Cond.instanceMethod ({ cls := "RoadHouses$Sheet", name := "<init>", desc := "()V" } : Jvm.MethodName)) ∈ lw_all := lw_g (lw_at lw_m1 163 rfl) rfl
theorem q245 : (Jvm.Cond.code ({ cls := "RoadHouses$Sheet", name := "<init>", desc := "()V" } : Jvm.MethodName) prog_13_method_1_code (1 : Nat) (Option.none : Option Jvm.ClassFile.FieldType)) ∈ lw_all := lw_g (lw_at lw_m1 164 rfl) rfl
theorem q246 : (Jvm.Cond.methodLink "RoadHouses$Sheet" (1 : Nat) ({ cls := "java/lang/Object", name := "<init>", desc := "()V" } : Jvm.MethodName)) ∈ lw_all := lw_g (lw_at lw_m1 165 rfl) rfl
theorem q247 : (Jvm.Cond.fieldLink "RoadHouses$Sheet" (7 : Nat) "RoadHouses$Sheet" "row" "Ljava/lang/Object;") ∈ lw_all := lw_g (lw_at lw_m1 166 rfl) rfl
theorem q249 : (Jvm.Cond.lays "RoadHouses$Sheet" "RoadHouses$Sheet" "row" "Ljava/lang/Object;") ∈ lw_all := lw_g (lw_at lw_m1 168 rfl) rfl
theorem q250 : (Jvm.Cond.soleField "RoadHouses$Sheet" "row") ∈ lw_all := lw_g (lw_at lw_m1 169 rfl) rfl
theorem q251 : (Jvm.Cond.superclass "RoadHouses$Sheet" "java/lang/Object") ∈ lw_all := lw_g (lw_at lw_m1 170 rfl) rfl
theorem q426 : (Jvm.Cond.selects "RoadHouses$Sheet" ({ cls := "java/lang/Object", name := "getClass", desc := "()Ljava/lang/Class;" } : Jvm.MethodName) ({ cls := "java/lang/Object", name := "getClass", desc := "()Ljava/lang/Class;" } : Jvm.MethodName)) ∈ lw_all := lw_g (lw_at lw_m2 105 rfl) rfl
theorem q1301 : (Jvm.Cond.instanceMethod ({ cls := "RoadHouses$Sheet", name := "size", desc := "()I" } : Jvm.MethodName)) ∈ lw_all := lw_g (lw_at lw_m6 20 rfl) rfl
theorem q1302 : (Jvm.Cond.selects "RoadHouses$Sheet" ({ cls := "RoadHouses$Sheet", name := "size", desc := "()I" } : Jvm.MethodName) ({ cls := "RoadHouses$Sheet", name := "size", desc := "()I" } : Jvm.MethodName)) ∈ lw_all := lw_g (lw_at lw_m6 21 rfl) rfl
theorem q1303 : (Jvm.Cond.code ({ cls := "RoadHouses$Sheet", name := "size", desc := "()I" } : Jvm.MethodName) prog_13_method_2_code (3 : Nat) (Option.some Jvm.ClassFile.FieldType.int)) ∈ lw_all := lw_g (lw_at lw_m6 22 rfl) rfl
theorem q1304 : (Jvm.Cond.classLink "RoadHouses$Sheet" (13 : Nat) "[Z") ∈ lw_all := lw_g (lw_at lw_m6 23 rfl) rfl
theorem q1305 : (Jvm.Cond.classLink "RoadHouses$Sheet" (15 : Nat) "[S") ∈ lw_all := lw_g (lw_at lw_m6 24 rfl) rfl
theorem q1306 : (Jvm.Cond.classLink "RoadHouses$Sheet" (17 : Nat) "[I") ∈ lw_all := lw_g (lw_at lw_m6 25 rfl) rfl
theorem q2003 : (Jvm.Cond.castable "RoadHouses$Sheet" "java/lang/Object") ∈ lw_tbl := lw_at lw_m9 2 rfl
theorem in_X2 : ∀ w ∈ wsX20, w ∈ lw_all := lw_in wsX20 [249] (by decide +kernel) (by decide +kernel)
/-! RoadHouses$Place -/
set_option maxRecDepth 100000
def RX4 : String := "RoadHouses$Place"
def TX4 : u_T := fun k => match k with
  | 0 => ("RoadHouses$Place", "number", "I", true)
  | _ => ("RoadHouses$Place", "land", "I", true)
def tyX4 : Nat → FieldType := fun k => match k with
  | 0 => .int
  | _ => .int
abbrev wsX40 : List Cond := u_ws RX4 TX4 2
theorem nmX4 : ∀ a, a < 2 → ∀ b, b < 2 → a ≠ b → (TX4 a).2.1 ≠ (TX4 b).2.1 := by decide +kernel
theorem tyX4_ok : ∀ k, k < 2 → parseFieldDescriptor (TX4 k).2.2.1 = some (tyX4 k) := by decide +kernel
abbrev cX4_init : ByteArray := prog_11_method_1_code
def yX4_init : MethodName := ⟨RX4, "<init>", "(II)V"⟩
def dkwX4_init_0 : List UInt8 := [42, 183, 0, 1, 42, 27, 181, 0, 7, 42, 28, 181, 0, 13, 177]
abbrev dktX4_init_0 : List UInt8 := dkwX4_init_0 ++ []
theorem dksX4_init_0 : cX4_init.data.toList.drop 0 = dktX4_init_0 := by decide +kernel
theorem dX4_init_0 : decode cX4_init 0 = .ok (.aload_n 0, 1) := dk_42 (dk_at dksX4_init_0 0 rfl rfl)
theorem dX4_init_1 : decode cX4_init 1 = .ok (.invokespecial 1, 3) := dk_183 0 1 (dk_at dksX4_init_0 1 rfl rfl)
theorem dX4_init_4 : decode cX4_init 4 = .ok (.aload_n 0, 1) := dk_42 (dk_at dksX4_init_0 4 rfl rfl)
theorem dX4_init_5 : decode cX4_init 5 = .ok (.iload_n 1, 1) := dk_27 (dk_at dksX4_init_0 5 rfl rfl)
theorem dX4_init_6 : decode cX4_init 6 = .ok (.putfield 7, 3) := dk_181 0 7 (dk_at dksX4_init_0 6 rfl rfl)
theorem dX4_init_9 : decode cX4_init 9 = .ok (.aload_n 0, 1) := dk_42 (dk_at dksX4_init_0 9 rfl rfl)
theorem dX4_init_10 : decode cX4_init 10 = .ok (.iload_n 2, 1) := dk_28 (dk_at dksX4_init_0 10 rfl rfl)
theorem dX4_init_11 : decode cX4_init 11 = .ok (.putfield 13, 3) := dk_181 0 13 (dk_at dksX4_init_0 11 rfl rfl)
theorem dX4_init_14 : decode cX4_init 14 = .ok (.return_, 1) := dk_177 (dk_at dksX4_init_0 14 rfl rfl)
abbrev cX4_bears : ByteArray := prog_11_method_3_code
def yX4_bears : MethodName := ⟨RX4, "bears", "(I)Z"⟩
theorem dX4_bears_0 : decode cX4_bears 0 = .ok (.iconst 1, 1) := by decide +kernel
theorem dX4_bears_1 : decode cX4_bears 1 = .ok (.ireturn, 1) := by decide +kernel
abbrev cX4_kind : ByteArray := prog_11_method_2_code
def yX4_kind : MethodName := ⟨RX4, "kind", "()I"⟩
theorem dX4_kind_0 : decode cX4_kind 0 = .ok (.iconst 0, 1) := by decide +kernel
theorem dX4_kind_1 : decode cX4_kind 1 = .ok (.ireturn, 1) := by decide +kernel
abbrev cX4_beds : ByteArray := prog_11_method_5_code
def yX4_beds : MethodName := ⟨RX4, "beds", "()I"⟩
theorem dX4_beds_0 : decode cX4_beds 0 = .ok (.iconst 0, 1) := by decide +kernel
theorem dX4_beds_1 : decode cX4_beds 1 = .ok (.ireturn, 1) := by decide +kernel
abbrev cX4_isSeenBy : ByteArray := prog_11_method_4_code
def yX4_isSeenBy : MethodName := ⟨RX4, "isSeenBy", "(I)Z"⟩
theorem dX4_isSeenBy_0 : decode cX4_isSeenBy 0 = .ok (.iconst 1, 1) := by decide +kernel
theorem dX4_isSeenBy_1 : decode cX4_isSeenBy 1 = .ok (.ireturn, 1) := by decide +kernel
theorem q91 : (Jvm.Cond.initialized "RoadHouses$Place") ∈ lw_all := lw_g (lw_at lw_m1 10 rfl) rfl
theorem q357 : (Jvm.Cond.instantiable "RoadHouses$Place" (2 : Nat)) ∈ lw_all := lw_g (lw_at lw_m2 36 rfl) rfl
theorem q359 : (Jvm.Cond.instanceMethod ({ cls := "RoadHouses$Place", name := "<init>", desc := "(II)V" } : Jvm.MethodName)) ∈ lw_all := lw_g (lw_at lw_m2 38 rfl) rfl
theorem q360 : (Jvm.Cond.code ({ cls := "RoadHouses$Place", name := "<init>", desc := "(II)V" } : Jvm.MethodName) prog_11_method_1_code (3 : Nat) (Option.none : Option Jvm.ClassFile.FieldType)) ∈ lw_all := lw_g (lw_at lw_m2 39 rfl) rfl
theorem q361 : (Jvm.Cond.methodLink "RoadHouses$Place" (1 : Nat) ({ cls := "java/lang/Object", name := "<init>", desc := "()V" } : Jvm.MethodName)) ∈ lw_all := lw_g (lw_at lw_m2 40 rfl) rfl
theorem q362 : (Jvm.Cond.fieldLink "RoadHouses$Place" (7 : Nat) "RoadHouses$Place" "number" "I") ∈ lw_all := lw_g (lw_at lw_m2 41 rfl) rfl
theorem q366 : (Jvm.Cond.fieldLink "RoadHouses$Place" (13 : Nat) "RoadHouses$Place" "land" "I") ∈ lw_all := lw_g (lw_at lw_m2 45 rfl) rfl
theorem q368 : (Jvm.Cond.laysFinal "RoadHouses$Place" "RoadHouses$Place" "number" "I") ∈ lw_all := lw_g (lw_at lw_m2 47 rfl) rfl
theorem q369 : (Jvm.Cond.soleField "RoadHouses$Place" "number") ∈ lw_all := lw_g (lw_at lw_m2 48 rfl) rfl
theorem q370 : (Jvm.Cond.laysFinal "RoadHouses$Place" "RoadHouses$Place" "land" "I") ∈ lw_all := lw_g (lw_at lw_m2 49 rfl) rfl
theorem q371 : (Jvm.Cond.soleField "RoadHouses$Place" "land") ∈ lw_all := lw_g (lw_at lw_m2 50 rfl) rfl
theorem q372 : (Jvm.Cond.superclass "RoadHouses$Place" "java/lang/Object") ∈ lw_all := lw_g (lw_at lw_m2 51 rfl) rfl
theorem q424 : (Jvm.Cond.selects "RoadHouses$Place" ({ cls := "java/lang/Object", name := "getClass", desc := "()Ljava/lang/Class;" } : Jvm.MethodName) ({ cls := "java/lang/Object", name := "getClass", desc := "()Ljava/lang/Class;" } : Jvm.MethodName)) ∈ lw_all := lw_g (lw_at lw_m2 103 rfl) rfl
theorem q644 : (Jvm.Cond.declares ({ cls := "RoadHouses$Place", name := "bears", desc := "(I)Z" } : Jvm.MethodName)) ∈ lw_tbl := lw_at lw_m3 83 rfl
theorem q645 : (Jvm.Cond.instanceMethod ({ cls := "RoadHouses$Place", name := "bears", desc := "(I)Z" } : Jvm.MethodName)) ∈ lw_all := lw_g (lw_at lw_m3 84 rfl) rfl
theorem q646 : (Jvm.Cond.code ({ cls := "RoadHouses$Place", name := "bears", desc := "(I)Z" } : Jvm.MethodName) prog_11_method_3_code (2 : Nat) (Option.some Jvm.ClassFile.FieldType.boolean)) ∈ lw_all := lw_g (lw_at lw_m3 85 rfl) rfl
theorem q652 : (Jvm.Cond.instanceMethod ({ cls := "RoadHouses$Place", name := "kind", desc := "()I" } : Jvm.MethodName)) ∈ lw_all := lw_g (lw_at lw_m3 91 rfl) rfl
theorem q653 : (Jvm.Cond.selects "RoadHouses$Place" ({ cls := "RoadHouses$Place", name := "kind", desc := "()I" } : Jvm.MethodName) ({ cls := "RoadHouses$Place", name := "kind", desc := "()I" } : Jvm.MethodName)) ∈ lw_all := lw_g (lw_at lw_m3 92 rfl) rfl
theorem q654 : (Jvm.Cond.sameMethod "RoadHouses$Place" "RoadHouses$Place" "kind" "()I") ∈ lw_all := lw_g (lw_at lw_m3 93 rfl) rfl
theorem q667 : (Jvm.Cond.code ({ cls := "RoadHouses$Place", name := "kind", desc := "()I" } : Jvm.MethodName) prog_11_method_2_code (1 : Nat) (Option.some Jvm.ClassFile.FieldType.int)) ∈ lw_all := lw_g (lw_at lw_m3 106 rfl) rfl
theorem q669 : (Jvm.Cond.instanceMethod ({ cls := "RoadHouses$Place", name := "beds", desc := "()I" } : Jvm.MethodName)) ∈ lw_all := lw_g (lw_at lw_m3 108 rfl) rfl
theorem q670 : (Jvm.Cond.selects "RoadHouses$Place" ({ cls := "RoadHouses$Place", name := "beds", desc := "()I" } : Jvm.MethodName) ({ cls := "RoadHouses$Place", name := "beds", desc := "()I" } : Jvm.MethodName)) ∈ lw_all := lw_g (lw_at lw_m3 109 rfl) rfl
theorem q671 : (Jvm.Cond.sameMethod "RoadHouses$Place" "RoadHouses$Place" "beds" "()I") ∈ lw_all := lw_g (lw_at lw_m3 110 rfl) rfl
theorem q678 : (Jvm.Cond.code ({ cls := "RoadHouses$Place", name := "beds", desc := "()I" } : Jvm.MethodName) prog_11_method_5_code (1 : Nat) (Option.some Jvm.ClassFile.FieldType.int)) ∈ lw_all := lw_g (lw_at lw_m3 117 rfl) rfl
theorem q884 : (Jvm.Cond.instanceMethod ({ cls := "RoadHouses$Place", name := "isSeenBy", desc := "(I)Z" } : Jvm.MethodName)) ∈ lw_all := lw_g (lw_at lw_m4 83 rfl) rfl
theorem q885 : (Jvm.Cond.selects "RoadHouses$Place" ({ cls := "RoadHouses$Place", name := "isSeenBy", desc := "(I)Z" } : Jvm.MethodName) ({ cls := "RoadHouses$Place", name := "isSeenBy", desc := "(I)Z" } : Jvm.MethodName)) ∈ lw_all := lw_g (lw_at lw_m4 84 rfl) rfl
theorem q886 : (Jvm.Cond.sameMethod "RoadHouses$Place" "RoadHouses$Place" "isSeenBy" "(I)Z") ∈ lw_all := lw_g (lw_at lw_m4 85 rfl) rfl
theorem q896 : (Jvm.Cond.code ({ cls := "RoadHouses$Place", name := "isSeenBy", desc := "(I)Z" } : Jvm.MethodName) prog_11_method_4_code (2 : Nat) (Option.some Jvm.ClassFile.FieldType.boolean)) ∈ lw_all := lw_g (lw_at lw_m4 95 rfl) rfl
theorem q1988 : (Jvm.Cond.sameMethod "RoadHouses$Place" "RoadHouses$Place" "bears" "(I)Z") ∈ lw_all := lw_g (lw_at lw_m8 227 rfl) rfl
theorem q1991 : (Jvm.Cond.selects "RoadHouses$Place" ({ cls := "RoadHouses$Place", name := "bears", desc := "(I)Z" } : Jvm.MethodName) ({ cls := "RoadHouses$Place", name := "bears", desc := "(I)Z" } : Jvm.MethodName)) ∈ lw_all := lw_g (lw_at lw_m8 230 rfl) rfl
theorem q2008 : (Jvm.Cond.castable "RoadHouses$Place" "java/lang/Object") ∈ lw_tbl := lw_at lw_m9 7 rfl
theorem in_X4 : ∀ w ∈ wsX40, w ∈ lw_all := lw_in wsX40 [368, 370] (by decide +kernel) (by decide +kernel)
/-! RoadHouses$House -/
set_option maxRecDepth 100000
def RX5 : String := "RoadHouses$House"
def TX5 : u_T := fun k => match k with
  | 0 => ("RoadHouses$Place", "number", "I", true)
  | 1 => ("RoadHouses$Place", "land", "I", true)
  | 2 => ("RoadHouses$House", "beds", "I", true)
  | 3 => ("RoadHouses$House", "known", "I", false)
  | 4 => ("RoadHouses$House", "isDim", "Z", false)
  | _ => ("RoadHouses$House", "isWatched", "Z", false)
def tyX5 : Nat → FieldType := fun k => match k with
  | 0 => .int
  | 1 => .int
  | 2 => .int
  | 3 => .int
  | 4 => .boolean
  | _ => .boolean
abbrev wsX50 : List Cond := u_ws RX5 TX5 6
theorem nmX5 : ∀ a, a < 6 → ∀ b, b < 6 → a ≠ b → (TX5 a).2.1 ≠ (TX5 b).2.1 := by decide +kernel
theorem tyX5_ok : ∀ k, k < 6 → parseFieldDescriptor (TX5 k).2.2.1 = some (tyX5 k) := by decide +kernel
abbrev cX5_init : ByteArray := prog_6_method_1_code
def yX5_init : MethodName := ⟨RX5, "<init>", "(III)V"⟩
def dkwX5_init_0 : List UInt8 := [42, 27, 28, 183, 0, 1, 42, 29, 181, 0, 7, 177]
abbrev dktX5_init_0 : List UInt8 := dkwX5_init_0 ++ []
theorem dksX5_init_0 : cX5_init.data.toList.drop 0 = dktX5_init_0 := by decide +kernel
theorem dX5_init_0 : decode cX5_init 0 = .ok (.aload_n 0, 1) := dk_42 (dk_at dksX5_init_0 0 rfl rfl)
theorem dX5_init_1 : decode cX5_init 1 = .ok (.iload_n 1, 1) := dk_27 (dk_at dksX5_init_0 1 rfl rfl)
theorem dX5_init_2 : decode cX5_init 2 = .ok (.iload_n 2, 1) := dk_28 (dk_at dksX5_init_0 2 rfl rfl)
theorem dX5_init_3 : decode cX5_init 3 = .ok (.invokespecial 1, 3) := dk_183 0 1 (dk_at dksX5_init_0 3 rfl rfl)
theorem dX5_init_6 : decode cX5_init 6 = .ok (.aload_n 0, 1) := dk_42 (dk_at dksX5_init_0 6 rfl rfl)
theorem dX5_init_7 : decode cX5_init 7 = .ok (.iload_n 3, 1) := dk_29 (dk_at dksX5_init_0 7 rfl rfl)
theorem dX5_init_8 : decode cX5_init 8 = .ok (.putfield 7, 3) := dk_181 0 7 (dk_at dksX5_init_0 8 rfl rfl)
theorem dX5_init_11 : decode cX5_init 11 = .ok (.return_, 1) := dk_177 (dk_at dksX5_init_0 11 rfl rfl)
abbrev cX5_kind : ByteArray := prog_6_method_2_code
def yX5_kind : MethodName := ⟨RX5, "kind", "()I"⟩
theorem dX5_kind_0 : decode cX5_kind 0 = .ok (.iconst 1, 1) := by decide +kernel
theorem dX5_kind_1 : decode cX5_kind 1 = .ok (.ireturn, 1) := by decide +kernel
abbrev cX5_beds : ByteArray := prog_6_method_3_code
def yX5_beds : MethodName := ⟨RX5, "beds", "()I"⟩
theorem dX5_beds_0 : decode cX5_beds 0 = .ok (.aload_n 0, 1) := by decide +kernel
theorem dX5_beds_1 : decode cX5_beds 1 = .ok (.getfield 7, 3) := by decide +kernel
theorem dX5_beds_4 : decode cX5_beds 4 = .ok (.ireturn, 1) := by decide +kernel
abbrev cX5_isSeenBy : ByteArray := prog_6_method_4_code
def yX5_isSeenBy : MethodName := ⟨RX5, "isSeenBy", "(I)Z"⟩
def dkwX5_isSeenBy_0 : List UInt8 := [27, 5, 161, 0, 7, 4, 167, 0, 4, 3, 172]
abbrev dktX5_isSeenBy_0 : List UInt8 := dkwX5_isSeenBy_0 ++ []
theorem dksX5_isSeenBy_0 : cX5_isSeenBy.data.toList.drop 0 = dktX5_isSeenBy_0 := by decide +kernel
theorem dX5_isSeenBy_0 : decode cX5_isSeenBy 0 = .ok (.iload_n 1, 1) := dk_27 (dk_at dksX5_isSeenBy_0 0 rfl rfl)
theorem dX5_isSeenBy_1 : decode cX5_isSeenBy 1 = .ok (.iconst 2, 1) := dk_5 (dk_at dksX5_isSeenBy_0 1 rfl rfl)
theorem dX5_isSeenBy_2 : decode cX5_isSeenBy 2 = .ok (.if_icmp .lt 7, 3) := dk_161 0 7 (dk_at dksX5_isSeenBy_0 2 rfl rfl)
theorem dX5_isSeenBy_5 : decode cX5_isSeenBy 5 = .ok (.iconst 1, 1) := dk_4 (dk_at dksX5_isSeenBy_0 5 rfl rfl)
theorem dX5_isSeenBy_6 : decode cX5_isSeenBy 6 = .ok (.goto 4, 3) := dk_167 0 4 (dk_at dksX5_isSeenBy_0 6 rfl rfl)
theorem dX5_isSeenBy_9 : decode cX5_isSeenBy 9 = .ok (.iconst 0, 1) := dk_3 (dk_at dksX5_isSeenBy_0 9 rfl rfl)
theorem dX5_isSeenBy_10 : decode cX5_isSeenBy 10 = .ok (.ireturn, 1) := dk_172 (dk_at dksX5_isSeenBy_0 10 rfl rfl)
theorem q96 : (Jvm.Cond.initialized "RoadHouses$House") ∈ lw_all := lw_g (lw_at lw_m1 15 rfl) rfl
theorem q365 : (Jvm.Cond.sameField "RoadHouses$House" "RoadHouses$Place" "number" "I") ∈ lw_all := lw_g (lw_at lw_m2 44 rfl) rfl
theorem q419 : (Jvm.Cond.selects "RoadHouses$House" ({ cls := "java/lang/Object", name := "getClass", desc := "()Ljava/lang/Class;" } : Jvm.MethodName) ({ cls := "java/lang/Object", name := "getClass", desc := "()Ljava/lang/Class;" } : Jvm.MethodName)) ∈ lw_all := lw_g (lw_at lw_m2 98 rfl) rfl
theorem q460 : (Jvm.Cond.instantiable "RoadHouses$House" (6 : Nat)) ∈ lw_all := lw_g (lw_at lw_m2 139 rfl) rfl
theorem q462 : (Jvm.Cond.instanceMethod ({ cls := "RoadHouses$House", name := "<init>", desc := "(III)V" } : Jvm.MethodName)) ∈ lw_all := lw_g (lw_at lw_m2 141 rfl) rfl
theorem q463 : (Jvm.Cond.code ({ cls := "RoadHouses$House", name := "<init>", desc := "(III)V" } : Jvm.MethodName) prog_6_method_1_code (4 : Nat) (Option.none : Option Jvm.ClassFile.FieldType)) ∈ lw_all := lw_g (lw_at lw_m2 142 rfl) rfl
theorem q464 : (Jvm.Cond.methodLink "RoadHouses$House" (1 : Nat) ({ cls := "RoadHouses$Place", name := "<init>", desc := "(II)V" } : Jvm.MethodName)) ∈ lw_all := lw_g (lw_at lw_m2 143 rfl) rfl
theorem q465 : (Jvm.Cond.fieldLink "RoadHouses$House" (7 : Nat) "RoadHouses$House" "beds" "I") ∈ lw_all := lw_g (lw_at lw_m2 144 rfl) rfl
theorem q469 : (Jvm.Cond.laysFinal "RoadHouses$House" "RoadHouses$House" "beds" "I") ∈ lw_all := lw_g (lw_at lw_m2 148 rfl) rfl
theorem q470 : (Jvm.Cond.soleField "RoadHouses$House" "beds") ∈ lw_all := lw_g (lw_at lw_m2 149 rfl) rfl
theorem q471 : (Jvm.Cond.lays "RoadHouses$House" "RoadHouses$House" "known" "I") ∈ lw_all := lw_g (lw_at lw_m2 150 rfl) rfl
theorem q472 : (Jvm.Cond.soleField "RoadHouses$House" "known") ∈ lw_all := lw_g (lw_at lw_m2 151 rfl) rfl
theorem q473 : (Jvm.Cond.lays "RoadHouses$House" "RoadHouses$House" "isDim" "Z") ∈ lw_all := lw_g (lw_at lw_m2 152 rfl) rfl
theorem q474 : (Jvm.Cond.soleField "RoadHouses$House" "isDim") ∈ lw_all := lw_g (lw_at lw_m2 153 rfl) rfl
theorem q475 : (Jvm.Cond.lays "RoadHouses$House" "RoadHouses$House" "isWatched" "Z") ∈ lw_all := lw_g (lw_at lw_m2 154 rfl) rfl
theorem q476 : (Jvm.Cond.soleField "RoadHouses$House" "isWatched") ∈ lw_all := lw_g (lw_at lw_m2 155 rfl) rfl
theorem q477 : (Jvm.Cond.laysFinal "RoadHouses$House" "RoadHouses$Place" "number" "I") ∈ lw_all := lw_g (lw_at lw_m2 156 rfl) rfl
theorem q478 : (Jvm.Cond.laysFinal "RoadHouses$House" "RoadHouses$Place" "land" "I") ∈ lw_all := lw_g (lw_at lw_m2 157 rfl) rfl
theorem q479 : (Jvm.Cond.superclass "RoadHouses$House" "RoadHouses$Place") ∈ lw_all := lw_g (lw_at lw_m2 158 rfl) rfl
theorem q643 : (Jvm.Cond.sameMethod "RoadHouses$House" "RoadHouses$Place" "bears" "(I)Z") ∈ lw_all := lw_g (lw_at lw_m3 82 rfl) rfl
theorem q658 : (Jvm.Cond.selects "RoadHouses$House" ({ cls := "RoadHouses$Place", name := "kind", desc := "()I" } : Jvm.MethodName) ({ cls := "RoadHouses$House", name := "kind", desc := "()I" } : Jvm.MethodName)) ∈ lw_all := lw_g (lw_at lw_m3 97 rfl) rfl
theorem q659 : (Jvm.Cond.instanceMethod ({ cls := "RoadHouses$House", name := "kind", desc := "()I" } : Jvm.MethodName)) ∈ lw_all := lw_g (lw_at lw_m3 98 rfl) rfl
theorem q660 : (Jvm.Cond.code ({ cls := "RoadHouses$House", name := "kind", desc := "()I" } : Jvm.MethodName) prog_6_method_2_code (1 : Nat) (Option.some Jvm.ClassFile.FieldType.int)) ∈ lw_all := lw_g (lw_at lw_m3 99 rfl) rfl
theorem q673 : (Jvm.Cond.instanceMethod ({ cls := "RoadHouses$House", name := "beds", desc := "()I" } : Jvm.MethodName)) ∈ lw_all := lw_g (lw_at lw_m3 112 rfl) rfl
theorem q674 : (Jvm.Cond.code ({ cls := "RoadHouses$House", name := "beds", desc := "()I" } : Jvm.MethodName) prog_6_method_3_code (1 : Nat) (Option.some Jvm.ClassFile.FieldType.int)) ∈ lw_all := lw_g (lw_at lw_m3 113 rfl) rfl
theorem q675 : (Jvm.Cond.selects "RoadHouses$House" ({ cls := "RoadHouses$Place", name := "beds", desc := "()I" } : Jvm.MethodName) ({ cls := "RoadHouses$House", name := "beds", desc := "()I" } : Jvm.MethodName)) ∈ lw_all := lw_g (lw_at lw_m3 114 rfl) rfl
theorem q888 : (Jvm.Cond.instanceMethod ({ cls := "RoadHouses$House", name := "isSeenBy", desc := "(I)Z" } : Jvm.MethodName)) ∈ lw_all := lw_g (lw_at lw_m4 87 rfl) rfl
theorem q889 : (Jvm.Cond.code ({ cls := "RoadHouses$House", name := "isSeenBy", desc := "(I)Z" } : Jvm.MethodName) prog_6_method_4_code (2 : Nat) (Option.some Jvm.ClassFile.FieldType.boolean)) ∈ lw_all := lw_g (lw_at lw_m4 88 rfl) rfl
theorem q890 : (Jvm.Cond.selects "RoadHouses$House" ({ cls := "RoadHouses$Place", name := "isSeenBy", desc := "(I)Z" } : Jvm.MethodName) ({ cls := "RoadHouses$House", name := "isSeenBy", desc := "(I)Z" } : Jvm.MethodName)) ∈ lw_all := lw_g (lw_at lw_m4 89 rfl) rfl
theorem q1990 : (Jvm.Cond.selects "RoadHouses$House" ({ cls := "RoadHouses$Place", name := "bears", desc := "(I)Z" } : Jvm.MethodName) ({ cls := "RoadHouses$Place", name := "bears", desc := "(I)Z" } : Jvm.MethodName)) ∈ lw_all := lw_g (lw_at lw_m8 229 rfl) rfl
theorem q1994 : (Jvm.Cond.sameMethod "RoadHouses$House" "RoadHouses$House" "isSeenBy" "(I)Z") ∈ lw_all := lw_g (lw_at lw_m8 233 rfl) rfl
theorem q2000 : (Jvm.Cond.castable "RoadHouses$House" "RoadHouses$Place") ∈ lw_tbl := lw_at lw_m8 239 rfl
theorem q2009 : (Jvm.Cond.castable "RoadHouses$House" "java/lang/Object") ∈ lw_tbl := lw_at lw_m9 8 rfl
theorem in_X5 : ∀ w ∈ wsX50, w ∈ lw_all := lw_in wsX50 [477, 478, 469, 471, 473, 475] (by decide +kernel) (by decide +kernel)
/-! RoadHouses$Store -/
set_option maxRecDepth 100000
def RX6 : String := "RoadHouses$Store"
def TX6 : u_T := fun k => match k with
  | 0 => ("RoadHouses$Place", "number", "I", true)
  | 1 => ("RoadHouses$Place", "land", "I", true)
  | 2 => ("RoadHouses$House", "beds", "I", true)
  | 3 => ("RoadHouses$House", "known", "I", false)
  | 4 => ("RoadHouses$House", "isDim", "Z", false)
  | 5 => ("RoadHouses$House", "isWatched", "Z", false)
  | 6 => ("RoadHouses$Store", "wall", "I", true)
  | _ => ("RoadHouses$Store", "depth", "I", true)
def tyX6 : Nat → FieldType := fun k => match k with
  | 0 => .int
  | 1 => .int
  | 2 => .int
  | 3 => .int
  | 4 => .boolean
  | 5 => .boolean
  | 6 => .int
  | _ => .int
abbrev wsX60 : List Cond := u_ws RX6 TX6 8
theorem nmX6 : ∀ a, a < 8 → ∀ b, b < 8 → a ≠ b → (TX6 a).2.1 ≠ (TX6 b).2.1 := by decide +kernel
theorem tyX6_ok : ∀ k, k < 8 → parseFieldDescriptor (TX6 k).2.2.1 = some (tyX6 k) := by decide +kernel
abbrev cX6_init : ByteArray := prog_14_method_1_code
def yX6_init : MethodName := ⟨RX6, "<init>", "(IIIII)V"⟩
def dkwX6_init_0 : List UInt8 := [42, 27, 28, 29, 183, 0, 1, 42, 21, 4, 181, 0, 7, 42, 21, 5, 181, 0, 13, 177]
abbrev dktX6_init_0 : List UInt8 := dkwX6_init_0 ++ []
theorem dksX6_init_0 : cX6_init.data.toList.drop 0 = dktX6_init_0 := by decide +kernel
theorem dX6_init_0 : decode cX6_init 0 = .ok (.aload_n 0, 1) := dk_42 (dk_at dksX6_init_0 0 rfl rfl)
theorem dX6_init_1 : decode cX6_init 1 = .ok (.iload_n 1, 1) := dk_27 (dk_at dksX6_init_0 1 rfl rfl)
theorem dX6_init_2 : decode cX6_init 2 = .ok (.iload_n 2, 1) := dk_28 (dk_at dksX6_init_0 2 rfl rfl)
theorem dX6_init_3 : decode cX6_init 3 = .ok (.iload_n 3, 1) := dk_29 (dk_at dksX6_init_0 3 rfl rfl)
theorem dX6_init_4 : decode cX6_init 4 = .ok (.invokespecial 1, 3) := dk_183 0 1 (dk_at dksX6_init_0 4 rfl rfl)
theorem dX6_init_7 : decode cX6_init 7 = .ok (.aload_n 0, 1) := dk_42 (dk_at dksX6_init_0 7 rfl rfl)
theorem dX6_init_8 : decode cX6_init 8 = .ok (.iload 4, 2) := dk_21 4 (dk_at dksX6_init_0 8 rfl rfl)
theorem dX6_init_10 : decode cX6_init 10 = .ok (.putfield 7, 3) := dk_181 0 7 (dk_at dksX6_init_0 10 rfl rfl)
theorem dX6_init_13 : decode cX6_init 13 = .ok (.aload_n 0, 1) := dk_42 (dk_at dksX6_init_0 13 rfl rfl)
theorem dX6_init_14 : decode cX6_init 14 = .ok (.iload 5, 2) := dk_21 5 (dk_at dksX6_init_0 14 rfl rfl)
theorem dX6_init_16 : decode cX6_init 16 = .ok (.putfield 13, 3) := dk_181 0 13 (dk_at dksX6_init_0 16 rfl rfl)
theorem dX6_init_19 : decode cX6_init 19 = .ok (.return_, 1) := dk_177 (dk_at dksX6_init_0 19 rfl rfl)
abbrev cX6_kind : ByteArray := prog_14_method_2_code
def yX6_kind : MethodName := ⟨RX6, "kind", "()I"⟩
theorem dX6_kind_0 : decode cX6_kind 0 = .ok (.iconst 2, 1) := by decide +kernel
theorem dX6_kind_1 : decode cX6_kind 1 = .ok (.ireturn, 1) := by decide +kernel
theorem q97 : (Jvm.Cond.initialized "RoadHouses$Store") ∈ lw_all := lw_g (lw_at lw_m1 16 rfl) rfl
theorem q427 : (Jvm.Cond.selects "RoadHouses$Store" ({ cls := "java/lang/Object", name := "getClass", desc := "()Ljava/lang/Class;" } : Jvm.MethodName) ({ cls := "java/lang/Object", name := "getClass", desc := "()Ljava/lang/Class;" } : Jvm.MethodName)) ∈ lw_all := lw_g (lw_at lw_m2 106 rfl) rfl
theorem q485 : (Jvm.Cond.instantiable "RoadHouses$Store" (8 : Nat)) ∈ lw_all := lw_g (lw_at lw_m2 164 rfl) rfl
theorem q487 : (Jvm.Cond.instanceMethod ({ cls := "RoadHouses$Store", name := "<init>", desc := "(IIIII)V" } : Jvm.MethodName)) ∈ lw_all := lw_g (lw_at lw_m2 166 rfl) rfl
theorem q488 : (Jvm.Cond.code ({ cls := "RoadHouses$Store", name := "<init>", desc := "(IIIII)V" } : Jvm.MethodName) prog_14_method_1_code (6 : Nat) (Option.none : Option Jvm.ClassFile.FieldType)) ∈ lw_all := lw_g (lw_at lw_m2 167 rfl) rfl
theorem q489 : (Jvm.Cond.methodLink "RoadHouses$Store" (1 : Nat) ({ cls := "RoadHouses$House", name := "<init>", desc := "(III)V" } : Jvm.MethodName)) ∈ lw_all := lw_g (lw_at lw_m2 168 rfl) rfl
theorem q490 : (Jvm.Cond.fieldLink "RoadHouses$Store" (7 : Nat) "RoadHouses$Store" "wall" "I") ∈ lw_all := lw_g (lw_at lw_m2 169 rfl) rfl
theorem q492 : (Jvm.Cond.fieldLink "RoadHouses$Store" (13 : Nat) "RoadHouses$Store" "depth" "I") ∈ lw_all := lw_g (lw_at lw_m2 171 rfl) rfl
theorem q494 : (Jvm.Cond.laysFinal "RoadHouses$Store" "RoadHouses$Store" "wall" "I") ∈ lw_all := lw_g (lw_at lw_m2 173 rfl) rfl
theorem q495 : (Jvm.Cond.soleField "RoadHouses$Store" "wall") ∈ lw_all := lw_g (lw_at lw_m2 174 rfl) rfl
theorem q496 : (Jvm.Cond.laysFinal "RoadHouses$Store" "RoadHouses$Store" "depth" "I") ∈ lw_all := lw_g (lw_at lw_m2 175 rfl) rfl
theorem q497 : (Jvm.Cond.soleField "RoadHouses$Store" "depth") ∈ lw_all := lw_g (lw_at lw_m2 176 rfl) rfl
theorem q498 : (Jvm.Cond.laysFinal "RoadHouses$Store" "RoadHouses$House" "beds" "I") ∈ lw_all := lw_g (lw_at lw_m2 177 rfl) rfl
theorem q499 : (Jvm.Cond.lays "RoadHouses$Store" "RoadHouses$House" "known" "I") ∈ lw_all := lw_g (lw_at lw_m2 178 rfl) rfl
theorem q500 : (Jvm.Cond.lays "RoadHouses$Store" "RoadHouses$House" "isDim" "Z") ∈ lw_all := lw_g (lw_at lw_m2 179 rfl) rfl
theorem q501 : (Jvm.Cond.lays "RoadHouses$Store" "RoadHouses$House" "isWatched" "Z") ∈ lw_all := lw_g (lw_at lw_m2 180 rfl) rfl
theorem q502 : (Jvm.Cond.laysFinal "RoadHouses$Store" "RoadHouses$Place" "number" "I") ∈ lw_all := lw_g (lw_at lw_m2 181 rfl) rfl
theorem q503 : (Jvm.Cond.laysFinal "RoadHouses$Store" "RoadHouses$Place" "land" "I") ∈ lw_all := lw_g (lw_at lw_m2 182 rfl) rfl
theorem q504 : (Jvm.Cond.superclass "RoadHouses$Store" "RoadHouses$House") ∈ lw_all := lw_g (lw_at lw_m2 183 rfl) rfl
theorem q661 : (Jvm.Cond.selects "RoadHouses$Store" ({ cls := "RoadHouses$Place", name := "kind", desc := "()I" } : Jvm.MethodName) ({ cls := "RoadHouses$Store", name := "kind", desc := "()I" } : Jvm.MethodName)) ∈ lw_all := lw_g (lw_at lw_m3 100 rfl) rfl
theorem q662 : (Jvm.Cond.instanceMethod ({ cls := "RoadHouses$Store", name := "kind", desc := "()I" } : Jvm.MethodName)) ∈ lw_all := lw_g (lw_at lw_m3 101 rfl) rfl
theorem q663 : (Jvm.Cond.code ({ cls := "RoadHouses$Store", name := "kind", desc := "()I" } : Jvm.MethodName) prog_14_method_2_code (1 : Nat) (Option.some Jvm.ClassFile.FieldType.int)) ∈ lw_all := lw_g (lw_at lw_m3 102 rfl) rfl
theorem q676 : (Jvm.Cond.selects "RoadHouses$Store" ({ cls := "RoadHouses$Place", name := "beds", desc := "()I" } : Jvm.MethodName) ({ cls := "RoadHouses$House", name := "beds", desc := "()I" } : Jvm.MethodName)) ∈ lw_all := lw_g (lw_at lw_m3 115 rfl) rfl
theorem q891 : (Jvm.Cond.selects "RoadHouses$Store" ({ cls := "RoadHouses$Place", name := "isSeenBy", desc := "(I)Z" } : Jvm.MethodName) ({ cls := "RoadHouses$House", name := "isSeenBy", desc := "(I)Z" } : Jvm.MethodName)) ∈ lw_all := lw_g (lw_at lw_m4 90 rfl) rfl
theorem q1992 : (Jvm.Cond.selects "RoadHouses$Store" ({ cls := "RoadHouses$Place", name := "bears", desc := "(I)Z" } : Jvm.MethodName) ({ cls := "RoadHouses$Place", name := "bears", desc := "(I)Z" } : Jvm.MethodName)) ∈ lw_all := lw_g (lw_at lw_m8 231 rfl) rfl
theorem q1997 : (Jvm.Cond.castable "RoadHouses$Store" "RoadHouses$House") ∈ lw_tbl := lw_at lw_m8 236 rfl
theorem q2001 : (Jvm.Cond.castable "RoadHouses$Store" "RoadHouses$Place") ∈ lw_tbl := lw_at lw_m9 0 rfl
theorem q2010 : (Jvm.Cond.castable "RoadHouses$Store" "java/lang/Object") ∈ lw_tbl := lw_at lw_m9 9 rfl
theorem in_X6 : ∀ w ∈ wsX60, w ∈ lw_all := lw_in wsX60 [502, 503, 498, 499, 500, 501, 494, 496] (by decide +kernel) (by decide +kernel)
/-! RoadHouses$Crossing -/
set_option maxRecDepth 100000
def RX7 : String := "RoadHouses$Crossing"
def TX7 : u_T := fun k => match k with
  | 0 => ("RoadHouses$Place", "number", "I", true)
  | 1 => ("RoadHouses$Place", "land", "I", true)
  | 2 => ("RoadHouses$House", "beds", "I", true)
  | 3 => ("RoadHouses$House", "known", "I", false)
  | 4 => ("RoadHouses$House", "isDim", "Z", false)
  | 5 => ("RoadHouses$House", "isWatched", "Z", false)
  | _ => ("RoadHouses$Crossing", "shut", "[Z", true)
def tyX7 : Nat → FieldType := fun k => match k with
  | 0 => .int
  | 1 => .int
  | 2 => .int
  | 3 => .int
  | 4 => .boolean
  | 5 => .boolean
  | _ => .array .boolean
abbrev wsX70 : List Cond := u_ws RX7 TX7 7
theorem nmX7 : ∀ a, a < 7 → ∀ b, b < 7 → a ≠ b → (TX7 a).2.1 ≠ (TX7 b).2.1 := by decide +kernel
theorem tyX7_ok : ∀ k, k < 7 → parseFieldDescriptor (TX7 k).2.2.1 = some (tyX7 k) := by decide +kernel
abbrev cX7_init : ByteArray := prog_4_method_1_code
def yX7_init : MethodName := ⟨RX7, "<init>", "(III)V"⟩
def dkwX7_init_0 : List UInt8 := [42, 27, 28, 29, 183, 0, 3, 42, 16, 50, 188, 4, 181, 0, 9, 177]
abbrev dktX7_init_0 : List UInt8 := dkwX7_init_0 ++ []
theorem dksX7_init_0 : cX7_init.data.toList.drop 0 = dktX7_init_0 := by decide +kernel
theorem dX7_init_0 : decode cX7_init 0 = .ok (.aload_n 0, 1) := dk_42 (dk_at dksX7_init_0 0 rfl rfl)
theorem dX7_init_1 : decode cX7_init 1 = .ok (.iload_n 1, 1) := dk_27 (dk_at dksX7_init_0 1 rfl rfl)
theorem dX7_init_2 : decode cX7_init 2 = .ok (.iload_n 2, 1) := dk_28 (dk_at dksX7_init_0 2 rfl rfl)
theorem dX7_init_3 : decode cX7_init 3 = .ok (.iload_n 3, 1) := dk_29 (dk_at dksX7_init_0 3 rfl rfl)
theorem dX7_init_4 : decode cX7_init 4 = .ok (.invokespecial 3, 3) := dk_183 0 3 (dk_at dksX7_init_0 4 rfl rfl)
theorem dX7_init_7 : decode cX7_init 7 = .ok (.aload_n 0, 1) := dk_42 (dk_at dksX7_init_0 7 rfl rfl)
theorem dX7_init_8 : decode cX7_init 8 = .ok (.bipush 50, 2) := dk_16 50 (dk_at dksX7_init_0 8 rfl rfl)
theorem dX7_init_10 : decode cX7_init 10 = .ok (.newarray .boolean, 2) := dk_188_4 (dk_at dksX7_init_0 10 rfl rfl)
theorem dX7_init_12 : decode cX7_init 12 = .ok (.putfield 9, 3) := dk_181 0 9 (dk_at dksX7_init_0 12 rfl rfl)
theorem dX7_init_15 : decode cX7_init 15 = .ok (.return_, 1) := dk_177 (dk_at dksX7_init_0 15 rfl rfl)
abbrev cX7_bears : ByteArray := prog_4_method_3_code
def yX7_bears : MethodName := ⟨RX7, "bears", "(I)Z"⟩
def dkwX7_bears_0 : List UInt8 := [42, 180, 0, 9, 27, 51, 154, 0, 15, 42, 27, 183, 0, 15, 153, 0, 7, 4, 167, 0, 4, 3, 172]
abbrev dktX7_bears_0 : List UInt8 := dkwX7_bears_0 ++ []
theorem dksX7_bears_0 : cX7_bears.data.toList.drop 0 = dktX7_bears_0 := by decide +kernel
theorem dX7_bears_0 : decode cX7_bears 0 = .ok (.aload_n 0, 1) := dk_42 (dk_at dksX7_bears_0 0 rfl rfl)
theorem dX7_bears_1 : decode cX7_bears 1 = .ok (.getfield 9, 3) := dk_180 0 9 (dk_at dksX7_bears_0 1 rfl rfl)
theorem dX7_bears_4 : decode cX7_bears 4 = .ok (.iload_n 1, 1) := dk_27 (dk_at dksX7_bears_0 4 rfl rfl)
theorem dX7_bears_5 : decode cX7_bears 5 = .ok (.baload, 1) := dk_51 (dk_at dksX7_bears_0 5 rfl rfl)
theorem dX7_bears_6 : decode cX7_bears 6 = .ok (.ifCond .ne 15, 3) := dk_154 0 15 (dk_at dksX7_bears_0 6 rfl rfl)
theorem dX7_bears_9 : decode cX7_bears 9 = .ok (.aload_n 0, 1) := dk_42 (dk_at dksX7_bears_0 9 rfl rfl)
theorem dX7_bears_10 : decode cX7_bears 10 = .ok (.iload_n 1, 1) := dk_27 (dk_at dksX7_bears_0 10 rfl rfl)
theorem dX7_bears_11 : decode cX7_bears 11 = .ok (.invokespecial 15, 3) := dk_183 0 15 (dk_at dksX7_bears_0 11 rfl rfl)
theorem dX7_bears_14 : decode cX7_bears 14 = .ok (.ifCond .eq 7, 3) := dk_153 0 7 (dk_at dksX7_bears_0 14 rfl rfl)
theorem dX7_bears_17 : decode cX7_bears 17 = .ok (.iconst 1, 1) := dk_4 (dk_at dksX7_bears_0 17 rfl rfl)
theorem dX7_bears_18 : decode cX7_bears 18 = .ok (.goto 4, 3) := dk_167 0 4 (dk_at dksX7_bears_0 18 rfl rfl)
theorem dX7_bears_21 : decode cX7_bears 21 = .ok (.iconst 0, 1) := dk_3 (dk_at dksX7_bears_0 21 rfl rfl)
theorem dX7_bears_22 : decode cX7_bears 22 = .ok (.ireturn, 1) := dk_172 (dk_at dksX7_bears_0 22 rfl rfl)
abbrev cX7_kind : ByteArray := prog_4_method_2_code
def yX7_kind : MethodName := ⟨RX7, "kind", "()I"⟩
theorem dX7_kind_0 : decode cX7_kind 0 = .ok (.iconst 3, 1) := by decide +kernel
theorem dX7_kind_1 : decode cX7_kind 1 = .ok (.ireturn, 1) := by decide +kernel
theorem q98 : (Jvm.Cond.initialized "RoadHouses$Crossing") ∈ lw_all := lw_g (lw_at lw_m1 17 rfl) rfl
theorem q417 : (Jvm.Cond.selects "RoadHouses$Crossing" ({ cls := "java/lang/Object", name := "getClass", desc := "()Ljava/lang/Class;" } : Jvm.MethodName) ({ cls := "java/lang/Object", name := "getClass", desc := "()Ljava/lang/Class;" } : Jvm.MethodName)) ∈ lw_all := lw_g (lw_at lw_m2 96 rfl) rfl
theorem q510 : (Jvm.Cond.instantiable "RoadHouses$Crossing" (7 : Nat)) ∈ lw_all := lw_g (lw_at lw_m2 189 rfl) rfl
theorem q512 : (Jvm.Cond.instanceMethod ({ cls := "RoadHouses$Crossing", name := "<init>", desc := "(III)V" } : Jvm.MethodName)) ∈ lw_all := lw_g (lw_at lw_m2 191 rfl) rfl
theorem q513 : (Jvm.Cond.code ({ cls := "RoadHouses$Crossing", name := "<init>", desc := "(III)V" } : Jvm.MethodName) prog_4_method_1_code (4 : Nat) (Option.none : Option Jvm.ClassFile.FieldType)) ∈ lw_all := lw_g (lw_at lw_m2 192 rfl) rfl
theorem q514 : (Jvm.Cond.methodLink "RoadHouses$Crossing" (3 : Nat) ({ cls := "RoadHouses$House", name := "<init>", desc := "(III)V" } : Jvm.MethodName)) ∈ lw_all := lw_g (lw_at lw_m2 193 rfl) rfl
theorem q515 : (Jvm.Cond.fieldLink "RoadHouses$Crossing" (9 : Nat) "RoadHouses$Crossing" "shut" "[Z") ∈ lw_all := lw_g (lw_at lw_m2 194 rfl) rfl
theorem q517 : (Jvm.Cond.laysFinal "RoadHouses$Crossing" "RoadHouses$Crossing" "shut" "[Z") ∈ lw_all := lw_g (lw_at lw_m2 196 rfl) rfl
theorem q518 : (Jvm.Cond.soleField "RoadHouses$Crossing" "shut") ∈ lw_all := lw_g (lw_at lw_m2 197 rfl) rfl
theorem q519 : (Jvm.Cond.laysFinal "RoadHouses$Crossing" "RoadHouses$House" "beds" "I") ∈ lw_all := lw_g (lw_at lw_m2 198 rfl) rfl
theorem q520 : (Jvm.Cond.lays "RoadHouses$Crossing" "RoadHouses$House" "known" "I") ∈ lw_all := lw_g (lw_at lw_m2 199 rfl) rfl
theorem q521 : (Jvm.Cond.lays "RoadHouses$Crossing" "RoadHouses$House" "isDim" "Z") ∈ lw_all := lw_g (lw_at lw_m2 200 rfl) rfl
theorem q522 : (Jvm.Cond.lays "RoadHouses$Crossing" "RoadHouses$House" "isWatched" "Z") ∈ lw_all := lw_g (lw_at lw_m2 201 rfl) rfl
theorem q523 : (Jvm.Cond.laysFinal "RoadHouses$Crossing" "RoadHouses$Place" "number" "I") ∈ lw_all := lw_g (lw_at lw_m2 202 rfl) rfl
theorem q524 : (Jvm.Cond.laysFinal "RoadHouses$Crossing" "RoadHouses$Place" "land" "I") ∈ lw_all := lw_g (lw_at lw_m2 203 rfl) rfl
theorem q525 : (Jvm.Cond.superclass "RoadHouses$Crossing" "RoadHouses$House") ∈ lw_all := lw_g (lw_at lw_m2 204 rfl) rfl
theorem q639 : (Jvm.Cond.instanceMethod ({ cls := "RoadHouses$Crossing", name := "bears", desc := "(I)Z" } : Jvm.MethodName)) ∈ lw_all := lw_g (lw_at lw_m3 78 rfl) rfl
theorem q640 : (Jvm.Cond.selects "RoadHouses$Crossing" ({ cls := "RoadHouses$Crossing", name := "bears", desc := "(I)Z" } : Jvm.MethodName) ({ cls := "RoadHouses$Crossing", name := "bears", desc := "(I)Z" } : Jvm.MethodName)) ∈ lw_all := lw_g (lw_at lw_m3 79 rfl) rfl
theorem q641 : (Jvm.Cond.code ({ cls := "RoadHouses$Crossing", name := "bears", desc := "(I)Z" } : Jvm.MethodName) prog_4_method_3_code (2 : Nat) (Option.some Jvm.ClassFile.FieldType.boolean)) ∈ lw_all := lw_g (lw_at lw_m3 80 rfl) rfl
theorem q642 : (Jvm.Cond.methodLink "RoadHouses$Crossing" (15 : Nat) ({ cls := "RoadHouses$House", name := "bears", desc := "(I)Z" } : Jvm.MethodName)) ∈ lw_all := lw_g (lw_at lw_m3 81 rfl) rfl
theorem q655 : (Jvm.Cond.selects "RoadHouses$Crossing" ({ cls := "RoadHouses$Place", name := "kind", desc := "()I" } : Jvm.MethodName) ({ cls := "RoadHouses$Crossing", name := "kind", desc := "()I" } : Jvm.MethodName)) ∈ lw_all := lw_g (lw_at lw_m3 94 rfl) rfl
theorem q656 : (Jvm.Cond.instanceMethod ({ cls := "RoadHouses$Crossing", name := "kind", desc := "()I" } : Jvm.MethodName)) ∈ lw_all := lw_g (lw_at lw_m3 95 rfl) rfl
theorem q657 : (Jvm.Cond.code ({ cls := "RoadHouses$Crossing", name := "kind", desc := "()I" } : Jvm.MethodName) prog_4_method_2_code (1 : Nat) (Option.some Jvm.ClassFile.FieldType.int)) ∈ lw_all := lw_g (lw_at lw_m3 96 rfl) rfl
theorem q672 : (Jvm.Cond.selects "RoadHouses$Crossing" ({ cls := "RoadHouses$Place", name := "beds", desc := "()I" } : Jvm.MethodName) ({ cls := "RoadHouses$House", name := "beds", desc := "()I" } : Jvm.MethodName)) ∈ lw_all := lw_g (lw_at lw_m3 111 rfl) rfl
theorem q887 : (Jvm.Cond.selects "RoadHouses$Crossing" ({ cls := "RoadHouses$Place", name := "isSeenBy", desc := "(I)Z" } : Jvm.MethodName) ({ cls := "RoadHouses$House", name := "isSeenBy", desc := "(I)Z" } : Jvm.MethodName)) ∈ lw_all := lw_g (lw_at lw_m4 86 rfl) rfl
theorem q1989 : (Jvm.Cond.selects "RoadHouses$Crossing" ({ cls := "RoadHouses$Place", name := "bears", desc := "(I)Z" } : Jvm.MethodName) ({ cls := "RoadHouses$Crossing", name := "bears", desc := "(I)Z" } : Jvm.MethodName)) ∈ lw_all := lw_g (lw_at lw_m8 228 rfl) rfl
theorem q1996 : (Jvm.Cond.castable "RoadHouses$Crossing" "RoadHouses$House") ∈ lw_tbl := lw_at lw_m8 235 rfl
theorem q1999 : (Jvm.Cond.castable "RoadHouses$Crossing" "RoadHouses$Place") ∈ lw_tbl := lw_at lw_m8 238 rfl
theorem q2011 : (Jvm.Cond.castable "RoadHouses$Crossing" "java/lang/Object") ∈ lw_tbl := lw_at lw_m9 10 rfl
theorem in_X7 : ∀ w ∈ wsX70, w ∈ lw_all := lw_in wsX70 [523, 524, 519, 520, 521, 522, 517] (by decide +kernel) (by decide +kernel)
/-! RoadHouses$Town -/
set_option maxRecDepth 100000
def RX8 : String := "RoadHouses$Town"
def TX8 : u_T := fun k => match k with
  | 0 => ("RoadHouses$Place", "number", "I", true)
  | 1 => ("RoadHouses$Place", "land", "I", true)
  | 2 => ("RoadHouses$House", "beds", "I", true)
  | 3 => ("RoadHouses$House", "known", "I", false)
  | 4 => ("RoadHouses$House", "isDim", "Z", false)
  | 5 => ("RoadHouses$House", "isWatched", "Z", false)
  | _ => ("RoadHouses$Town", "eyes", "I", true)
def tyX8 : Nat → FieldType := fun k => match k with
  | 0 => .int
  | 1 => .int
  | 2 => .int
  | 3 => .int
  | 4 => .boolean
  | 5 => .boolean
  | _ => .int
abbrev wsX80 : List Cond := u_ws RX8 TX8 7
theorem nmX8 : ∀ a, a < 7 → ∀ b, b < 7 → a ≠ b → (TX8 a).2.1 ≠ (TX8 b).2.1 := by decide +kernel
theorem tyX8_ok : ∀ k, k < 7 → parseFieldDescriptor (TX8 k).2.2.1 = some (tyX8 k) := by decide +kernel
abbrev cX8_init : ByteArray := prog_16_method_1_code
def yX8_init : MethodName := ⟨RX8, "<init>", "(IIII)V"⟩
def dkwX8_init_0 : List UInt8 := [42, 27, 28, 29, 183, 0, 1, 42, 21, 4, 181, 0, 7, 177]
abbrev dktX8_init_0 : List UInt8 := dkwX8_init_0 ++ []
theorem dksX8_init_0 : cX8_init.data.toList.drop 0 = dktX8_init_0 := by decide +kernel
theorem dX8_init_0 : decode cX8_init 0 = .ok (.aload_n 0, 1) := dk_42 (dk_at dksX8_init_0 0 rfl rfl)
theorem dX8_init_1 : decode cX8_init 1 = .ok (.iload_n 1, 1) := dk_27 (dk_at dksX8_init_0 1 rfl rfl)
theorem dX8_init_2 : decode cX8_init 2 = .ok (.iload_n 2, 1) := dk_28 (dk_at dksX8_init_0 2 rfl rfl)
theorem dX8_init_3 : decode cX8_init 3 = .ok (.iload_n 3, 1) := dk_29 (dk_at dksX8_init_0 3 rfl rfl)
theorem dX8_init_4 : decode cX8_init 4 = .ok (.invokespecial 1, 3) := dk_183 0 1 (dk_at dksX8_init_0 4 rfl rfl)
theorem dX8_init_7 : decode cX8_init 7 = .ok (.aload_n 0, 1) := dk_42 (dk_at dksX8_init_0 7 rfl rfl)
theorem dX8_init_8 : decode cX8_init 8 = .ok (.iload 4, 2) := dk_21 4 (dk_at dksX8_init_0 8 rfl rfl)
theorem dX8_init_10 : decode cX8_init 10 = .ok (.putfield 7, 3) := dk_181 0 7 (dk_at dksX8_init_0 10 rfl rfl)
theorem dX8_init_13 : decode cX8_init 13 = .ok (.return_, 1) := dk_177 (dk_at dksX8_init_0 13 rfl rfl)
abbrev cX8_kind : ByteArray := prog_16_method_2_code
def yX8_kind : MethodName := ⟨RX8, "kind", "()I"⟩
theorem dX8_kind_0 : decode cX8_kind 0 = .ok (.iconst 4, 1) := by decide +kernel
theorem dX8_kind_1 : decode cX8_kind 1 = .ok (.ireturn, 1) := by decide +kernel
abbrev cX8_isSeenBy : ByteArray := prog_16_method_3_code
def yX8_isSeenBy : MethodName := ⟨RX8, "isSeenBy", "(I)Z"⟩
def dkwX8_isSeenBy_0 : List UInt8 := [42, 27, 42, 180, 0, 7, 96, 183, 0, 13, 172]
abbrev dktX8_isSeenBy_0 : List UInt8 := dkwX8_isSeenBy_0 ++ []
theorem dksX8_isSeenBy_0 : cX8_isSeenBy.data.toList.drop 0 = dktX8_isSeenBy_0 := by decide +kernel
theorem dX8_isSeenBy_0 : decode cX8_isSeenBy 0 = .ok (.aload_n 0, 1) := dk_42 (dk_at dksX8_isSeenBy_0 0 rfl rfl)
theorem dX8_isSeenBy_1 : decode cX8_isSeenBy 1 = .ok (.iload_n 1, 1) := dk_27 (dk_at dksX8_isSeenBy_0 1 rfl rfl)
theorem dX8_isSeenBy_2 : decode cX8_isSeenBy 2 = .ok (.aload_n 0, 1) := dk_42 (dk_at dksX8_isSeenBy_0 2 rfl rfl)
theorem dX8_isSeenBy_3 : decode cX8_isSeenBy 3 = .ok (.getfield 7, 3) := dk_180 0 7 (dk_at dksX8_isSeenBy_0 3 rfl rfl)
theorem dX8_isSeenBy_6 : decode cX8_isSeenBy 6 = .ok (.iadd, 1) := dk_96 (dk_at dksX8_isSeenBy_0 6 rfl rfl)
theorem dX8_isSeenBy_7 : decode cX8_isSeenBy 7 = .ok (.invokespecial 13, 3) := dk_183 0 13 (dk_at dksX8_isSeenBy_0 7 rfl rfl)
theorem dX8_isSeenBy_10 : decode cX8_isSeenBy 10 = .ok (.ireturn, 1) := dk_172 (dk_at dksX8_isSeenBy_0 10 rfl rfl)
theorem q99 : (Jvm.Cond.initialized "RoadHouses$Town") ∈ lw_all := lw_g (lw_at lw_m1 18 rfl) rfl
theorem q428 : (Jvm.Cond.selects "RoadHouses$Town" ({ cls := "java/lang/Object", name := "getClass", desc := "()Ljava/lang/Class;" } : Jvm.MethodName) ({ cls := "java/lang/Object", name := "getClass", desc := "()Ljava/lang/Class;" } : Jvm.MethodName)) ∈ lw_all := lw_g (lw_at lw_m2 107 rfl) rfl
theorem q532 : (Jvm.Cond.instantiable "RoadHouses$Town" (7 : Nat)) ∈ lw_all := lw_g (lw_at lw_m2 211 rfl) rfl
theorem q534 : (Jvm.Cond.instanceMethod ({ cls := "RoadHouses$Town", name := "<init>", desc := "(IIII)V" } : Jvm.MethodName)) ∈ lw_all := lw_g (lw_at lw_m2 213 rfl) rfl
theorem q535 : (Jvm.Cond.code ({ cls := "RoadHouses$Town", name := "<init>", desc := "(IIII)V" } : Jvm.MethodName) prog_16_method_1_code (5 : Nat) (Option.none : Option Jvm.ClassFile.FieldType)) ∈ lw_all := lw_g (lw_at lw_m2 214 rfl) rfl
theorem q536 : (Jvm.Cond.methodLink "RoadHouses$Town" (1 : Nat) ({ cls := "RoadHouses$House", name := "<init>", desc := "(III)V" } : Jvm.MethodName)) ∈ lw_all := lw_g (lw_at lw_m2 215 rfl) rfl
theorem q537 : (Jvm.Cond.fieldLink "RoadHouses$Town" (7 : Nat) "RoadHouses$Town" "eyes" "I") ∈ lw_all := lw_g (lw_at lw_m2 216 rfl) rfl
theorem q538 : (Jvm.Cond.laysFinal "RoadHouses$Town" "RoadHouses$Town" "eyes" "I") ∈ lw_all := lw_g (lw_at lw_m2 217 rfl) rfl
theorem q539 : (Jvm.Cond.soleField "RoadHouses$Town" "eyes") ∈ lw_all := lw_g (lw_at lw_m2 218 rfl) rfl
theorem q540 : (Jvm.Cond.laysFinal "RoadHouses$Town" "RoadHouses$House" "beds" "I") ∈ lw_all := lw_g (lw_at lw_m2 219 rfl) rfl
theorem q541 : (Jvm.Cond.lays "RoadHouses$Town" "RoadHouses$House" "known" "I") ∈ lw_all := lw_g (lw_at lw_m2 220 rfl) rfl
theorem q542 : (Jvm.Cond.lays "RoadHouses$Town" "RoadHouses$House" "isDim" "Z") ∈ lw_all := lw_g (lw_at lw_m2 221 rfl) rfl
theorem q543 : (Jvm.Cond.lays "RoadHouses$Town" "RoadHouses$House" "isWatched" "Z") ∈ lw_all := lw_g (lw_at lw_m2 222 rfl) rfl
theorem q544 : (Jvm.Cond.laysFinal "RoadHouses$Town" "RoadHouses$Place" "number" "I") ∈ lw_all := lw_g (lw_at lw_m2 223 rfl) rfl
theorem q545 : (Jvm.Cond.laysFinal "RoadHouses$Town" "RoadHouses$Place" "land" "I") ∈ lw_all := lw_g (lw_at lw_m2 224 rfl) rfl
theorem q546 : (Jvm.Cond.superclass "RoadHouses$Town" "RoadHouses$House") ∈ lw_all := lw_g (lw_at lw_m2 225 rfl) rfl
theorem q664 : (Jvm.Cond.selects "RoadHouses$Town" ({ cls := "RoadHouses$Place", name := "kind", desc := "()I" } : Jvm.MethodName) ({ cls := "RoadHouses$Town", name := "kind", desc := "()I" } : Jvm.MethodName)) ∈ lw_all := lw_g (lw_at lw_m3 103 rfl) rfl
theorem q665 : (Jvm.Cond.instanceMethod ({ cls := "RoadHouses$Town", name := "kind", desc := "()I" } : Jvm.MethodName)) ∈ lw_all := lw_g (lw_at lw_m3 104 rfl) rfl
theorem q666 : (Jvm.Cond.code ({ cls := "RoadHouses$Town", name := "kind", desc := "()I" } : Jvm.MethodName) prog_16_method_2_code (1 : Nat) (Option.some Jvm.ClassFile.FieldType.int)) ∈ lw_all := lw_g (lw_at lw_m3 105 rfl) rfl
theorem q677 : (Jvm.Cond.selects "RoadHouses$Town" ({ cls := "RoadHouses$Place", name := "beds", desc := "()I" } : Jvm.MethodName) ({ cls := "RoadHouses$House", name := "beds", desc := "()I" } : Jvm.MethodName)) ∈ lw_all := lw_g (lw_at lw_m3 116 rfl) rfl
theorem q892 : (Jvm.Cond.selects "RoadHouses$Town" ({ cls := "RoadHouses$Place", name := "isSeenBy", desc := "(I)Z" } : Jvm.MethodName) ({ cls := "RoadHouses$Town", name := "isSeenBy", desc := "(I)Z" } : Jvm.MethodName)) ∈ lw_all := lw_g (lw_at lw_m4 91 rfl) rfl
theorem q893 : (Jvm.Cond.instanceMethod ({ cls := "RoadHouses$Town", name := "isSeenBy", desc := "(I)Z" } : Jvm.MethodName)) ∈ lw_all := lw_g (lw_at lw_m4 92 rfl) rfl
theorem q894 : (Jvm.Cond.code ({ cls := "RoadHouses$Town", name := "isSeenBy", desc := "(I)Z" } : Jvm.MethodName) prog_16_method_3_code (2 : Nat) (Option.some Jvm.ClassFile.FieldType.boolean)) ∈ lw_all := lw_g (lw_at lw_m4 93 rfl) rfl
theorem q895 : (Jvm.Cond.methodLink "RoadHouses$Town" (13 : Nat) ({ cls := "RoadHouses$House", name := "isSeenBy", desc := "(I)Z" } : Jvm.MethodName)) ∈ lw_all := lw_g (lw_at lw_m4 94 rfl) rfl
theorem q1993 : (Jvm.Cond.selects "RoadHouses$Town" ({ cls := "RoadHouses$Place", name := "bears", desc := "(I)Z" } : Jvm.MethodName) ({ cls := "RoadHouses$Place", name := "bears", desc := "(I)Z" } : Jvm.MethodName)) ∈ lw_all := lw_g (lw_at lw_m8 232 rfl) rfl
theorem q1998 : (Jvm.Cond.castable "RoadHouses$Town" "RoadHouses$House") ∈ lw_tbl := lw_at lw_m8 237 rfl
theorem q2002 : (Jvm.Cond.castable "RoadHouses$Town" "RoadHouses$Place") ∈ lw_tbl := lw_at lw_m9 1 rfl
theorem q2012 : (Jvm.Cond.castable "RoadHouses$Town" "java/lang/Object") ∈ lw_tbl := lw_at lw_m9 11 rfl
theorem in_X8 : ∀ w ∈ wsX80, w ∈ lw_all := lw_in wsX80 [544, 545, 540, 541, 542, 543, 538] (by decide +kernel) (by decide +kernel)
/-! RoadHouses$Change -/
set_option maxRecDepth 100000
def RX9 : String := "RoadHouses$Change"
def TX9 : u_T := fun k => match k with
  | 0 => ("RoadHouses$Change", "house", "I", true)
  | 1 => ("RoadHouses$Change", "hour", "I", true)
  | _ => ("RoadHouses$Change", "isLit", "Z", true)
def tyX9 : Nat → FieldType := fun k => match k with
  | 0 => .int
  | 1 => .int
  | _ => .boolean
abbrev wsX90 : List Cond := u_ws RX9 TX9 3
theorem nmX9 : ∀ a, a < 3 → ∀ b, b < 3 → a ≠ b → (TX9 a).2.1 ≠ (TX9 b).2.1 := by decide +kernel
theorem tyX9_ok : ∀ k, k < 3 → parseFieldDescriptor (TX9 k).2.2.1 = some (tyX9 k) := by decide +kernel
abbrev cX9_init : ByteArray := prog_2_method_1_code
def yX9_init : MethodName := ⟨RX9, "<init>", "(IIZ)V"⟩
def dkwX9_init_0 : List UInt8 := [42, 183, 0, 1, 42, 27, 181, 0, 7, 42, 28, 181, 0, 13, 42, 29, 181, 0, 16, 177]
abbrev dktX9_init_0 : List UInt8 := dkwX9_init_0 ++ []
theorem dksX9_init_0 : cX9_init.data.toList.drop 0 = dktX9_init_0 := by decide +kernel
theorem dX9_init_0 : decode cX9_init 0 = .ok (.aload_n 0, 1) := dk_42 (dk_at dksX9_init_0 0 rfl rfl)
theorem dX9_init_1 : decode cX9_init 1 = .ok (.invokespecial 1, 3) := dk_183 0 1 (dk_at dksX9_init_0 1 rfl rfl)
theorem dX9_init_4 : decode cX9_init 4 = .ok (.aload_n 0, 1) := dk_42 (dk_at dksX9_init_0 4 rfl rfl)
theorem dX9_init_5 : decode cX9_init 5 = .ok (.iload_n 1, 1) := dk_27 (dk_at dksX9_init_0 5 rfl rfl)
theorem dX9_init_6 : decode cX9_init 6 = .ok (.putfield 7, 3) := dk_181 0 7 (dk_at dksX9_init_0 6 rfl rfl)
theorem dX9_init_9 : decode cX9_init 9 = .ok (.aload_n 0, 1) := dk_42 (dk_at dksX9_init_0 9 rfl rfl)
theorem dX9_init_10 : decode cX9_init 10 = .ok (.iload_n 2, 1) := dk_28 (dk_at dksX9_init_0 10 rfl rfl)
theorem dX9_init_11 : decode cX9_init 11 = .ok (.putfield 13, 3) := dk_181 0 13 (dk_at dksX9_init_0 11 rfl rfl)
theorem dX9_init_14 : decode cX9_init 14 = .ok (.aload_n 0, 1) := dk_42 (dk_at dksX9_init_0 14 rfl rfl)
theorem dX9_init_15 : decode cX9_init 15 = .ok (.iload_n 3, 1) := dk_29 (dk_at dksX9_init_0 15 rfl rfl)
theorem dX9_init_16 : decode cX9_init 16 = .ok (.putfield 16, 3) := dk_181 0 16 (dk_at dksX9_init_0 16 rfl rfl)
theorem dX9_init_19 : decode cX9_init 19 = .ok (.return_, 1) := dk_177 (dk_at dksX9_init_0 19 rfl rfl)
theorem q102 : (Jvm.Cond.initialized "RoadHouses$Change") ∈ lw_all := lw_g (lw_at lw_m1 21 rfl) rfl
theorem q415 : (Jvm.Cond.selects "RoadHouses$Change" ({ cls := "java/lang/Object", name := "getClass", desc := "()Ljava/lang/Class;" } : Jvm.MethodName) ({ cls := "java/lang/Object", name := "getClass", desc := "()Ljava/lang/Class;" } : Jvm.MethodName)) ∈ lw_all := lw_g (lw_at lw_m2 94 rfl) rfl
theorem q596 : (Jvm.Cond.instantiable "RoadHouses$Change" (3 : Nat)) ∈ lw_all := lw_g (lw_at lw_m3 35 rfl) rfl
theorem q598 : (Jvm.Cond.instanceMethod ({ cls := "RoadHouses$Change", name := "<init>", desc := "(IIZ)V" } : Jvm.MethodName)) ∈ lw_all := lw_g (lw_at lw_m3 37 rfl) rfl
theorem q599 : (Jvm.Cond.code ({ cls := "RoadHouses$Change", name := "<init>", desc := "(IIZ)V" } : Jvm.MethodName) prog_2_method_1_code (4 : Nat) (Option.none : Option Jvm.ClassFile.FieldType)) ∈ lw_all := lw_g (lw_at lw_m3 38 rfl) rfl
theorem q600 : (Jvm.Cond.methodLink "RoadHouses$Change" (1 : Nat) ({ cls := "java/lang/Object", name := "<init>", desc := "()V" } : Jvm.MethodName)) ∈ lw_all := lw_g (lw_at lw_m3 39 rfl) rfl
theorem q601 : (Jvm.Cond.fieldLink "RoadHouses$Change" (7 : Nat) "RoadHouses$Change" "house" "I") ∈ lw_all := lw_g (lw_at lw_m3 40 rfl) rfl
theorem q603 : (Jvm.Cond.fieldLink "RoadHouses$Change" (13 : Nat) "RoadHouses$Change" "hour" "I") ∈ lw_all := lw_g (lw_at lw_m3 42 rfl) rfl
theorem q605 : (Jvm.Cond.fieldLink "RoadHouses$Change" (16 : Nat) "RoadHouses$Change" "isLit" "Z") ∈ lw_all := lw_g (lw_at lw_m3 44 rfl) rfl
theorem q607 : (Jvm.Cond.laysFinal "RoadHouses$Change" "RoadHouses$Change" "house" "I") ∈ lw_all := lw_g (lw_at lw_m3 46 rfl) rfl
theorem q608 : (Jvm.Cond.soleField "RoadHouses$Change" "house") ∈ lw_all := lw_g (lw_at lw_m3 47 rfl) rfl
theorem q609 : (Jvm.Cond.laysFinal "RoadHouses$Change" "RoadHouses$Change" "hour" "I") ∈ lw_all := lw_g (lw_at lw_m3 48 rfl) rfl
theorem q610 : (Jvm.Cond.soleField "RoadHouses$Change" "hour") ∈ lw_all := lw_g (lw_at lw_m3 49 rfl) rfl
theorem q611 : (Jvm.Cond.laysFinal "RoadHouses$Change" "RoadHouses$Change" "isLit" "Z") ∈ lw_all := lw_g (lw_at lw_m3 50 rfl) rfl
theorem q612 : (Jvm.Cond.soleField "RoadHouses$Change" "isLit") ∈ lw_all := lw_g (lw_at lw_m3 51 rfl) rfl
theorem q613 : (Jvm.Cond.superclass "RoadHouses$Change" "java/lang/Object") ∈ lw_all := lw_g (lw_at lw_m3 52 rfl) rfl
theorem q2013 : (Jvm.Cond.castable "RoadHouses$Change" "java/lang/Object") ∈ lw_tbl := lw_at lw_m9 12 rfl
theorem in_X9 : ∀ w ∈ wsX90, w ∈ lw_all := lw_in wsX90 [607, 609, 611] (by decide +kernel) (by decide +kernel)
/-! RoadHouses$Person -/
set_option maxRecDepth 100000
def RX10 : String := "RoadHouses$Person"
def TX10 : u_T := fun k => match k with
  | 0 => ("RoadHouses$Person", "number", "I", true)
  | 1 => ("RoadHouses$Person", "strength", "I", true)
  | 2 => ("RoadHouses$Person", "of", "LRoadHouses$Person;", true)
  | 3 => ("RoadHouses$Person", "children", "Ljava/util/List;", true)
  | 4 => ("RoadHouses$Person", "place", "LRoadHouses$Place;", false)
  | 5 => ("RoadHouses$Person", "toward", "LRoadHouses$Place;", false)
  | 6 => ("RoadHouses$Person", "comes", "I", false)
  | 7 => ("RoadHouses$Person", "isHidden", "Z", false)
  | 8 => ("RoadHouses$Person", "isTaken", "Z", false)
  | 9 => ("RoadHouses$Person", "isOver", "Z", false)
  | 10 => ("RoadHouses$Person", "scentAt", "LRoadHouses$Place;", false)
  | 11 => ("RoadHouses$Person", "scentTo", "LRoadHouses$Place;", false)
  | _ => ("RoadHouses$Person", "scentHour", "I", false)
def tyX10 : Nat → FieldType := fun k => match k with
  | 0 => .int
  | 1 => .int
  | 2 => .object "RoadHouses$Person"
  | 3 => .object "java/util/List"
  | 4 => .object "RoadHouses$Place"
  | 5 => .object "RoadHouses$Place"
  | 6 => .int
  | 7 => .boolean
  | 8 => .boolean
  | 9 => .boolean
  | 10 => .object "RoadHouses$Place"
  | 11 => .object "RoadHouses$Place"
  | _ => .int
abbrev wsX100 : List Cond := u_ws RX10 TX10 13
set_option maxRecDepth 100000 in
theorem nmX10 : ∀ a, a < 13 → ∀ b, b < 13 → a ≠ b → (TX10 a).2.1 ≠ (TX10 b).2.1 := by decide +kernel
set_option maxRecDepth 100000 in
theorem tyX10_ok : ∀ k, k < 13 → parseFieldDescriptor (TX10 k).2.2.1 = some (tyX10 k) := by decide +kernel
abbrev cX10_init : ByteArray := prog_10_method_1_code
def yX10_init : MethodName := ⟨RX10, "<init>", "(IILRoadHouses$Person;)V"⟩
def dkwX10_init_1 : List UInt8 := [181, 0, 22, 42, 45, 181, 0, 25, 177]
abbrev dktX10_init_1 : List UInt8 := dkwX10_init_1 ++ []
def dkwX10_init_0 : List UInt8 := [42, 183, 0, 3, 42, 187, 0, 9, 89, 183, 0, 11, 181, 0, 12, 42, 27, 181, 0, 18, 42, 28]
abbrev dktX10_init_0 : List UInt8 := dkwX10_init_0 ++ dktX10_init_1
theorem dksX10_init_0 : cX10_init.data.toList.drop 0 = dktX10_init_0 := by decide +kernel
theorem dksX10_init_1 : cX10_init.data.toList.drop 22 = dktX10_init_1 := dk_seg dksX10_init_0 22 rfl rfl
theorem dX10_init_0 : decode cX10_init 0 = .ok (.aload_n 0, 1) := dk_42 (dk_at dksX10_init_0 0 rfl rfl)
theorem dX10_init_1 : decode cX10_init 1 = .ok (.invokespecial 3, 3) := dk_183 0 3 (dk_at dksX10_init_0 1 rfl rfl)
theorem dX10_init_4 : decode cX10_init 4 = .ok (.aload_n 0, 1) := dk_42 (dk_at dksX10_init_0 4 rfl rfl)
theorem dX10_init_5 : decode cX10_init 5 = .ok (.new 9, 3) := dk_187 0 9 (dk_at dksX10_init_0 5 rfl rfl)
theorem dX10_init_8 : decode cX10_init 8 = .ok (.dup, 1) := dk_89 (dk_at dksX10_init_0 8 rfl rfl)
theorem dX10_init_9 : decode cX10_init 9 = .ok (.invokespecial 11, 3) := dk_183 0 11 (dk_at dksX10_init_0 9 rfl rfl)
theorem dX10_init_12 : decode cX10_init 12 = .ok (.putfield 12, 3) := dk_181 0 12 (dk_at dksX10_init_0 12 rfl rfl)
theorem dX10_init_15 : decode cX10_init 15 = .ok (.aload_n 0, 1) := dk_42 (dk_at dksX10_init_0 15 rfl rfl)
theorem dX10_init_16 : decode cX10_init 16 = .ok (.iload_n 1, 1) := dk_27 (dk_at dksX10_init_0 16 rfl rfl)
theorem dX10_init_17 : decode cX10_init 17 = .ok (.putfield 18, 3) := dk_181 0 18 (dk_at dksX10_init_0 17 rfl rfl)
theorem dX10_init_20 : decode cX10_init 20 = .ok (.aload_n 0, 1) := dk_42 (dk_at dksX10_init_0 20 rfl rfl)
theorem dX10_init_21 : decode cX10_init 21 = .ok (.iload_n 2, 1) := dk_28 (dk_at dksX10_init_0 21 rfl rfl)
theorem dX10_init_22 : decode cX10_init 22 = .ok (.putfield 22, 3) := dk_181 0 22 (dk_at dksX10_init_1 0 rfl rfl)
theorem dX10_init_25 : decode cX10_init 25 = .ok (.aload_n 0, 1) := dk_42 (dk_at dksX10_init_1 3 rfl rfl)
theorem dX10_init_26 : decode cX10_init 26 = .ok (.aload_n 3, 1) := dk_45 (dk_at dksX10_init_1 4 rfl rfl)
theorem dX10_init_27 : decode cX10_init 27 = .ok (.putfield 25, 3) := dk_181 0 25 (dk_at dksX10_init_1 5 rfl rfl)
theorem dX10_init_30 : decode cX10_init 30 = .ok (.return_, 1) := dk_177 (dk_at dksX10_init_1 8 rfl rfl)
abbrev cX10_isChild : ByteArray := prog_10_method_2_code
def yX10_isChild : MethodName := ⟨RX10, "isChild", "()Z"⟩
def dkwX10_isChild_0 : List UInt8 := [42, 180, 0, 25, 198, 0, 7, 4, 167, 0, 4, 3, 172]
abbrev dktX10_isChild_0 : List UInt8 := dkwX10_isChild_0 ++ []
theorem dksX10_isChild_0 : cX10_isChild.data.toList.drop 0 = dktX10_isChild_0 := by decide +kernel
theorem dX10_isChild_0 : decode cX10_isChild 0 = .ok (.aload_n 0, 1) := dk_42 (dk_at dksX10_isChild_0 0 rfl rfl)
theorem dX10_isChild_1 : decode cX10_isChild 1 = .ok (.getfield 25, 3) := dk_180 0 25 (dk_at dksX10_isChild_0 1 rfl rfl)
theorem dX10_isChild_4 : decode cX10_isChild 4 = .ok (.ifnull 7, 3) := dk_198 0 7 (dk_at dksX10_isChild_0 4 rfl rfl)
theorem dX10_isChild_7 : decode cX10_isChild 7 = .ok (.iconst 1, 1) := dk_4 (dk_at dksX10_isChild_0 7 rfl rfl)
theorem dX10_isChild_8 : decode cX10_isChild 8 = .ok (.goto 4, 3) := dk_167 0 4 (dk_at dksX10_isChild_0 8 rfl rfl)
theorem dX10_isChild_11 : decode cX10_isChild 11 = .ok (.iconst 0, 1) := dk_3 (dk_at dksX10_isChild_0 11 rfl rfl)
theorem dX10_isChild_12 : decode cX10_isChild 12 = .ok (.ireturn, 1) := dk_172 (dk_at dksX10_isChild_0 12 rfl rfl)
abbrev cX10_hasScent : ByteArray := prog_10_method_3_code
def yX10_hasScent : MethodName := ⟨RX10, "hasScent", "(I)Z"⟩
def dkwX10_hasScent_0 : List UInt8 := [42, 180, 0, 29, 198, 0, 18, 27, 42, 180, 0, 33, 100, 16, 12, 163, 0, 7, 4, 167, 0, 4, 3, 172]
abbrev dktX10_hasScent_0 : List UInt8 := dkwX10_hasScent_0 ++ []
theorem dksX10_hasScent_0 : cX10_hasScent.data.toList.drop 0 = dktX10_hasScent_0 := by decide +kernel
theorem dX10_hasScent_0 : decode cX10_hasScent 0 = .ok (.aload_n 0, 1) := dk_42 (dk_at dksX10_hasScent_0 0 rfl rfl)
theorem dX10_hasScent_1 : decode cX10_hasScent 1 = .ok (.getfield 29, 3) := dk_180 0 29 (dk_at dksX10_hasScent_0 1 rfl rfl)
theorem dX10_hasScent_4 : decode cX10_hasScent 4 = .ok (.ifnull 18, 3) := dk_198 0 18 (dk_at dksX10_hasScent_0 4 rfl rfl)
theorem dX10_hasScent_7 : decode cX10_hasScent 7 = .ok (.iload_n 1, 1) := dk_27 (dk_at dksX10_hasScent_0 7 rfl rfl)
theorem dX10_hasScent_8 : decode cX10_hasScent 8 = .ok (.aload_n 0, 1) := dk_42 (dk_at dksX10_hasScent_0 8 rfl rfl)
theorem dX10_hasScent_9 : decode cX10_hasScent 9 = .ok (.getfield 33, 3) := dk_180 0 33 (dk_at dksX10_hasScent_0 9 rfl rfl)
theorem dX10_hasScent_12 : decode cX10_hasScent 12 = .ok (.isub, 1) := dk_100 (dk_at dksX10_hasScent_0 12 rfl rfl)
theorem dX10_hasScent_13 : decode cX10_hasScent 13 = .ok (.bipush 12, 2) := dk_16 12 (dk_at dksX10_hasScent_0 13 rfl rfl)
theorem dX10_hasScent_15 : decode cX10_hasScent 15 = .ok (.if_icmp .gt 7, 3) := dk_163 0 7 (dk_at dksX10_hasScent_0 15 rfl rfl)
theorem dX10_hasScent_18 : decode cX10_hasScent 18 = .ok (.iconst 1, 1) := dk_4 (dk_at dksX10_hasScent_0 18 rfl rfl)
theorem dX10_hasScent_19 : decode cX10_hasScent 19 = .ok (.goto 4, 3) := dk_167 0 4 (dk_at dksX10_hasScent_0 19 rfl rfl)
theorem dX10_hasScent_22 : decode cX10_hasScent 22 = .ok (.iconst 0, 1) := dk_3 (dk_at dksX10_hasScent_0 22 rfl rfl)
theorem dX10_hasScent_23 : decode cX10_hasScent 23 = .ok (.ireturn, 1) := dk_172 (dk_at dksX10_hasScent_0 23 rfl rfl)
theorem q103 : (Jvm.Cond.initialized "RoadHouses$Person") ∈ lw_all := lw_g (lw_at lw_m1 22 rfl) rfl
theorem q423 : (Jvm.Cond.selects "RoadHouses$Person" ({ cls := "java/lang/Object", name := "getClass", desc := "()Ljava/lang/Class;" } : Jvm.MethodName) ({ cls := "java/lang/Object", name := "getClass", desc := "()Ljava/lang/Class;" } : Jvm.MethodName)) ∈ lw_all := lw_g (lw_at lw_m2 102 rfl) rfl
theorem q700 : (Jvm.Cond.instantiable "RoadHouses$Person" (13 : Nat)) ∈ lw_all := lw_g (lw_at lw_m3 139 rfl) rfl
theorem q702 : (Jvm.Cond.instanceMethod ({ cls := "RoadHouses$Person", name := "<init>", desc := "(IILRoadHouses$Person;)V" } : Jvm.MethodName)) ∈ lw_all := lw_g (lw_at lw_m3 141 rfl) rfl
theorem q703 : (Jvm.Cond.code ({ cls := "RoadHouses$Person", name := "<init>", desc := "(IILRoadHouses$Person;)V" } : Jvm.MethodName) prog_10_method_1_code (4 : Nat) (Option.none : Option Jvm.ClassFile.FieldType)) ∈ lw_all := lw_g (lw_at lw_m3 142 rfl) rfl
theorem q704 : (Jvm.Cond.methodLink "RoadHouses$Person" (3 : Nat) ({ cls := "java/lang/Object", name := "<init>", desc := "()V" } : Jvm.MethodName)) ∈ lw_all := lw_g (lw_at lw_m3 143 rfl) rfl
theorem q705 : (Jvm.Cond.classLink "RoadHouses$Person" (9 : Nat) "java/util/ArrayList") ∈ lw_all := lw_g (lw_at lw_m3 144 rfl) rfl
theorem q706 : (Jvm.Cond.methodLink "RoadHouses$Person" (11 : Nat) ({ cls := "java/util/ArrayList", name := "<init>", desc := "()V" } : Jvm.MethodName)) ∈ lw_all := lw_g (lw_at lw_m3 145 rfl) rfl
theorem q707 : (Jvm.Cond.fieldLink "RoadHouses$Person" (18 : Nat) "RoadHouses$Person" "number" "I") ∈ lw_all := lw_g (lw_at lw_m3 146 rfl) rfl
theorem q709 : (Jvm.Cond.fieldLink "RoadHouses$Person" (22 : Nat) "RoadHouses$Person" "strength" "I") ∈ lw_all := lw_g (lw_at lw_m3 148 rfl) rfl
theorem q711 : (Jvm.Cond.fieldLink "RoadHouses$Person" (25 : Nat) "RoadHouses$Person" "of" "LRoadHouses$Person;") ∈ lw_all := lw_g (lw_at lw_m3 150 rfl) rfl
theorem q713 : (Jvm.Cond.fieldLink "RoadHouses$Person" (12 : Nat) "RoadHouses$Person" "children" "Ljava/util/List;") ∈ lw_all := lw_g (lw_at lw_m3 152 rfl) rfl
theorem q721 : (Jvm.Cond.fieldLink "RoadHouses$Person" (29 : Nat) "RoadHouses$Person" "scentAt" "LRoadHouses$Place;") ∈ lw_all := lw_g (lw_at lw_m3 160 rfl) rfl
theorem q724 : (Jvm.Cond.fieldLink "RoadHouses$Person" (33 : Nat) "RoadHouses$Person" "scentHour" "I") ∈ lw_all := lw_g (lw_at lw_m3 163 rfl) rfl
theorem q726 : (Jvm.Cond.laysFinal "RoadHouses$Person" "RoadHouses$Person" "number" "I") ∈ lw_all := lw_g (lw_at lw_m3 165 rfl) rfl
theorem q727 : (Jvm.Cond.soleField "RoadHouses$Person" "number") ∈ lw_all := lw_g (lw_at lw_m3 166 rfl) rfl
theorem q728 : (Jvm.Cond.laysFinal "RoadHouses$Person" "RoadHouses$Person" "strength" "I") ∈ lw_all := lw_g (lw_at lw_m3 167 rfl) rfl
theorem q729 : (Jvm.Cond.soleField "RoadHouses$Person" "strength") ∈ lw_all := lw_g (lw_at lw_m3 168 rfl) rfl
theorem q730 : (Jvm.Cond.laysFinal "RoadHouses$Person" "RoadHouses$Person" "of" "LRoadHouses$Person;") ∈ lw_all := lw_g (lw_at lw_m3 169 rfl) rfl
theorem q731 : (Jvm.Cond.soleField "RoadHouses$Person" "of") ∈ lw_all := lw_g (lw_at lw_m3 170 rfl) rfl
theorem q732 : (Jvm.Cond.laysFinal "RoadHouses$Person" "RoadHouses$Person" "children" "Ljava/util/List;") ∈ lw_all := lw_g (lw_at lw_m3 171 rfl) rfl
theorem q733 : (Jvm.Cond.soleField "RoadHouses$Person" "children") ∈ lw_all := lw_g (lw_at lw_m3 172 rfl) rfl
theorem q734 : (Jvm.Cond.lays "RoadHouses$Person" "RoadHouses$Person" "place" "LRoadHouses$Place;") ∈ lw_all := lw_g (lw_at lw_m3 173 rfl) rfl
theorem q735 : (Jvm.Cond.soleField "RoadHouses$Person" "place") ∈ lw_all := lw_g (lw_at lw_m3 174 rfl) rfl
theorem q736 : (Jvm.Cond.lays "RoadHouses$Person" "RoadHouses$Person" "toward" "LRoadHouses$Place;") ∈ lw_all := lw_g (lw_at lw_m3 175 rfl) rfl
theorem q737 : (Jvm.Cond.soleField "RoadHouses$Person" "toward") ∈ lw_all := lw_g (lw_at lw_m3 176 rfl) rfl
theorem q738 : (Jvm.Cond.lays "RoadHouses$Person" "RoadHouses$Person" "comes" "I") ∈ lw_all := lw_g (lw_at lw_m3 177 rfl) rfl
theorem q739 : (Jvm.Cond.soleField "RoadHouses$Person" "comes") ∈ lw_all := lw_g (lw_at lw_m3 178 rfl) rfl
theorem q740 : (Jvm.Cond.lays "RoadHouses$Person" "RoadHouses$Person" "isHidden" "Z") ∈ lw_all := lw_g (lw_at lw_m3 179 rfl) rfl
theorem q741 : (Jvm.Cond.soleField "RoadHouses$Person" "isHidden") ∈ lw_all := lw_g (lw_at lw_m3 180 rfl) rfl
theorem q742 : (Jvm.Cond.lays "RoadHouses$Person" "RoadHouses$Person" "isTaken" "Z") ∈ lw_all := lw_g (lw_at lw_m3 181 rfl) rfl
theorem q743 : (Jvm.Cond.soleField "RoadHouses$Person" "isTaken") ∈ lw_all := lw_g (lw_at lw_m3 182 rfl) rfl
theorem q744 : (Jvm.Cond.lays "RoadHouses$Person" "RoadHouses$Person" "isOver" "Z") ∈ lw_all := lw_g (lw_at lw_m3 183 rfl) rfl
theorem q745 : (Jvm.Cond.soleField "RoadHouses$Person" "isOver") ∈ lw_all := lw_g (lw_at lw_m3 184 rfl) rfl
theorem q746 : (Jvm.Cond.lays "RoadHouses$Person" "RoadHouses$Person" "scentAt" "LRoadHouses$Place;") ∈ lw_all := lw_g (lw_at lw_m3 185 rfl) rfl
theorem q747 : (Jvm.Cond.soleField "RoadHouses$Person" "scentAt") ∈ lw_all := lw_g (lw_at lw_m3 186 rfl) rfl
theorem q748 : (Jvm.Cond.lays "RoadHouses$Person" "RoadHouses$Person" "scentTo" "LRoadHouses$Place;") ∈ lw_all := lw_g (lw_at lw_m3 187 rfl) rfl
theorem q749 : (Jvm.Cond.soleField "RoadHouses$Person" "scentTo") ∈ lw_all := lw_g (lw_at lw_m3 188 rfl) rfl
theorem q750 : (Jvm.Cond.lays "RoadHouses$Person" "RoadHouses$Person" "scentHour" "I") ∈ lw_all := lw_g (lw_at lw_m3 189 rfl) rfl
theorem q751 : (Jvm.Cond.soleField "RoadHouses$Person" "scentHour") ∈ lw_all := lw_g (lw_at lw_m3 190 rfl) rfl
theorem q752 : (Jvm.Cond.superclass "RoadHouses$Person" "java/lang/Object") ∈ lw_all := lw_g (lw_at lw_m3 191 rfl) rfl
theorem q762 : (Jvm.Cond.instanceMethod ({ cls := "RoadHouses$Person", name := "isChild", desc := "()Z" } : Jvm.MethodName)) ∈ lw_all := lw_g (lw_at lw_m3 201 rfl) rfl
theorem q763 : (Jvm.Cond.selects "RoadHouses$Person" ({ cls := "RoadHouses$Person", name := "isChild", desc := "()Z" } : Jvm.MethodName) ({ cls := "RoadHouses$Person", name := "isChild", desc := "()Z" } : Jvm.MethodName)) ∈ lw_all := lw_g (lw_at lw_m3 202 rfl) rfl
theorem q764 : (Jvm.Cond.code ({ cls := "RoadHouses$Person", name := "isChild", desc := "()Z" } : Jvm.MethodName) prog_10_method_2_code (1 : Nat) (Option.some Jvm.ClassFile.FieldType.boolean)) ∈ lw_all := lw_g (lw_at lw_m3 203 rfl) rfl
theorem q812 : (Jvm.Cond.instanceMethod ({ cls := "RoadHouses$Person", name := "hasScent", desc := "(I)Z" } : Jvm.MethodName)) ∈ lw_all := lw_g (lw_at lw_m4 11 rfl) rfl
theorem q813 : (Jvm.Cond.selects "RoadHouses$Person" ({ cls := "RoadHouses$Person", name := "hasScent", desc := "(I)Z" } : Jvm.MethodName) ({ cls := "RoadHouses$Person", name := "hasScent", desc := "(I)Z" } : Jvm.MethodName)) ∈ lw_all := lw_g (lw_at lw_m4 12 rfl) rfl
theorem q814 : (Jvm.Cond.code ({ cls := "RoadHouses$Person", name := "hasScent", desc := "(I)Z" } : Jvm.MethodName) prog_10_method_3_code (2 : Nat) (Option.some Jvm.ClassFile.FieldType.boolean)) ∈ lw_all := lw_g (lw_at lw_m4 13 rfl) rfl
theorem q2014 : (Jvm.Cond.castable "RoadHouses$Person" "java/lang/Object") ∈ lw_tbl := lw_at lw_m9 13 rfl
theorem in_X10 : ∀ w ∈ wsX100, w ∈ lw_all := lw_in wsX100 [726, 728, 730, 732, 734, 736, 738, 740, 742, 744, 746, 748, 750] (by decide +kernel) (by decide +kernel)
/-! RoadHouses$Hunter -/
set_option maxRecDepth 100000
def RX11 : String := "RoadHouses$Hunter"
def TX11 : u_T := fun k => match k with
  | 0 => ("RoadHouses$Hunter", "place", "LRoadHouses$Place;", false)
  | _ => ("RoadHouses$Hunter", "warrant", "I", false)
def tyX11 : Nat → FieldType := fun k => match k with
  | 0 => .object "RoadHouses$Place"
  | _ => .int
abbrev wsX110 : List Cond := u_ws RX11 TX11 2
theorem nmX11 : ∀ a, a < 2 → ∀ b, b < 2 → a ≠ b → (TX11 a).2.1 ≠ (TX11 b).2.1 := by decide +kernel
theorem tyX11_ok : ∀ k, k < 2 → parseFieldDescriptor (TX11 k).2.2.1 = some (tyX11 k) := by decide +kernel
abbrev cX11_init : ByteArray := prog_7_method_1_code
def yX11_init : MethodName := ⟨RX11, "<init>", "()V"⟩
theorem dX11_init_0 : decode cX11_init 0 = .ok (.aload_n 0, 1) := by decide +kernel
theorem dX11_init_1 : decode cX11_init 1 = .ok (.invokespecial 1, 3) := by decide +kernel
theorem dX11_init_4 : decode cX11_init 4 = .ok (.return_, 1) := by decide +kernel
theorem q104 : (Jvm.Cond.initialized "RoadHouses$Hunter") ∈ lw_all := lw_g (lw_at lw_m1 23 rfl) rfl
theorem q420 : (Jvm.Cond.selects "RoadHouses$Hunter" ({ cls := "java/lang/Object", name := "getClass", desc := "()Ljava/lang/Class;" } : Jvm.MethodName) ({ cls := "java/lang/Object", name := "getClass", desc := "()Ljava/lang/Class;" } : Jvm.MethodName)) ∈ lw_all := lw_g (lw_at lw_m2 99 rfl) rfl
theorem q820 : (Jvm.Cond.instantiable "RoadHouses$Hunter" (2 : Nat)) ∈ lw_all := lw_g (lw_at lw_m4 19 rfl) rfl
theorem q822 : (Jvm.Cond.instanceMethod ({ cls := "RoadHouses$Hunter", name := "<init>", desc := "()V" } : Jvm.MethodName)) ∈ lw_all := lw_g (lw_at lw_m4 21 rfl) rfl
theorem q823 : (Jvm.Cond.code ({ cls := "RoadHouses$Hunter", name := "<init>", desc := "()V" } : Jvm.MethodName) prog_7_method_1_code (1 : Nat) (Option.none : Option Jvm.ClassFile.FieldType)) ∈ lw_all := lw_g (lw_at lw_m4 22 rfl) rfl
theorem q824 : (Jvm.Cond.methodLink "RoadHouses$Hunter" (1 : Nat) ({ cls := "java/lang/Object", name := "<init>", desc := "()V" } : Jvm.MethodName)) ∈ lw_all := lw_g (lw_at lw_m4 23 rfl) rfl
theorem q827 : (Jvm.Cond.lays "RoadHouses$Hunter" "RoadHouses$Hunter" "place" "LRoadHouses$Place;") ∈ lw_all := lw_g (lw_at lw_m4 26 rfl) rfl
theorem q828 : (Jvm.Cond.soleField "RoadHouses$Hunter" "place") ∈ lw_all := lw_g (lw_at lw_m4 27 rfl) rfl
theorem q829 : (Jvm.Cond.lays "RoadHouses$Hunter" "RoadHouses$Hunter" "warrant" "I") ∈ lw_all := lw_g (lw_at lw_m4 28 rfl) rfl
theorem q830 : (Jvm.Cond.soleField "RoadHouses$Hunter" "warrant") ∈ lw_all := lw_g (lw_at lw_m4 29 rfl) rfl
theorem q831 : (Jvm.Cond.superclass "RoadHouses$Hunter" "java/lang/Object") ∈ lw_all := lw_g (lw_at lw_m4 30 rfl) rfl
theorem q2015 : (Jvm.Cond.castable "RoadHouses$Hunter" "java/lang/Object") ∈ lw_tbl := lw_at lw_m9 14 rfl
theorem in_X11 : ∀ w ∈ wsX110, w ∈ lw_all := lw_in wsX110 [827, 829] (by decide +kernel) (by decide +kernel)
/-! RoadHouses$Test -/
set_option maxRecDepth 100000
def RX12 : String := "RoadHouses$Test"
abbrev cX12_init : ByteArray := prog_15_method_1_code
def yX12_init : MethodName := ⟨RX12, "<init>", "()V"⟩
theorem dX12_init_0 : decode cX12_init 0 = .ok (.aload_n 0, 1) := by decide +kernel
theorem dX12_init_1 : decode cX12_init 1 = .ok (.invokespecial 1, 3) := by decide +kernel
theorem dX12_init_4 : decode cX12_init 4 = .ok (.return_, 1) := by decide +kernel
theorem q105 : (Jvm.Cond.initialized "RoadHouses$Test") ∈ lw_all := lw_g (lw_at lw_m1 24 rfl) rfl
theorem q867 : (Jvm.Cond.declares ({ cls := "RoadHouses$Test", name := "holds", desc := "([I)Z" } : Jvm.MethodName)) ∈ lw_tbl := lw_at lw_m4 66 rfl
theorem q868 : (Jvm.Cond.sameMethod "RoadHouses$Test" "RoadHouses$Test" "holds" "([I)Z") ∈ lw_all := lw_g (lw_at lw_m4 67 rfl) rfl
theorem q1074 : (Jvm.Cond.instanceMethod ({ cls := "RoadHouses$Test", name := "<init>", desc := "()V" } : Jvm.MethodName)) ∈ lw_all := lw_g (lw_at lw_m5 33 rfl) rfl
theorem q1075 : (Jvm.Cond.code ({ cls := "RoadHouses$Test", name := "<init>", desc := "()V" } : Jvm.MethodName) prog_15_method_1_code (1 : Nat) (Option.none : Option Jvm.ClassFile.FieldType)) ∈ lw_all := lw_g (lw_at lw_m5 34 rfl) rfl
theorem q1076 : (Jvm.Cond.methodLink "RoadHouses$Test" (1 : Nat) ({ cls := "java/lang/Object", name := "<init>", desc := "()V" } : Jvm.MethodName)) ∈ lw_all := lw_g (lw_at lw_m5 35 rfl) rfl
/-! RoadHouses$Claim -/
set_option maxRecDepth 100000
def RX13 : String := "RoadHouses$Claim"
def TX13 : u_T := fun k => match k with
  | 0 => ("RoadHouses$Claim", "left", "I", true)
  | 1 => ("RoadHouses$Claim", "sign", "I", true)
  | _ => ("RoadHouses$Claim", "right", "I", true)
def tyX13 : Nat → FieldType := fun k => match k with
  | 0 => .int
  | 1 => .int
  | _ => .int
abbrev wsX130 : List Cond := u_ws RX13 TX13 3
theorem nmX13 : ∀ a, a < 3 → ∀ b, b < 3 → a ≠ b → (TX13 a).2.1 ≠ (TX13 b).2.1 := by decide +kernel
theorem tyX13_ok : ∀ k, k < 3 → parseFieldDescriptor (TX13 k).2.2.1 = some (tyX13 k) := by decide +kernel
abbrev cX13_holds : ByteArray := prog_3_method_3_code
def yX13_holds : MethodName := ⟨RX13, "holds", "([I)Z"⟩
def dkwX13_holds_3 : List UInt8 := [167, 0, 4, 3, 172]
abbrev dktX13_holds_3 : List UInt8 := dkwX13_holds_3 ++ []
def dkwX13_holds_2 : List UInt8 := [160, 0, 16, 28, 29, 164, 0, 7, 4, 167, 0, 17, 3, 167, 0, 13, 28, 29, 160, 0, 7, 4]
abbrev dktX13_holds_2 : List UInt8 := dkwX13_holds_2 ++ dktX13_holds_3
def dkwX13_holds_1 : List UInt8 := [160, 0, 16, 28, 29, 162, 0, 7, 4, 167, 0, 39, 3, 167, 0, 35, 42, 180, 0, 13, 16, 62]
abbrev dktX13_holds_1 : List UInt8 := dkwX13_holds_1 ++ dktX13_holds_2
def dkwX13_holds_0 : List UInt8 := [42, 180, 0, 7, 43, 184, 0, 19, 61, 42, 180, 0, 16, 43, 184, 0, 19, 62, 42, 180, 0, 13, 16, 60]
abbrev dktX13_holds_0 : List UInt8 := dkwX13_holds_0 ++ dktX13_holds_1
theorem dksX13_holds_0 : cX13_holds.data.toList.drop 0 = dktX13_holds_0 := by decide +kernel
theorem dksX13_holds_1 : cX13_holds.data.toList.drop 24 = dktX13_holds_1 := dk_seg dksX13_holds_0 24 rfl rfl
theorem dksX13_holds_2 : cX13_holds.data.toList.drop 46 = dktX13_holds_2 := dk_seg dksX13_holds_1 22 rfl rfl
theorem dksX13_holds_3 : cX13_holds.data.toList.drop 68 = dktX13_holds_3 := dk_seg dksX13_holds_2 22 rfl rfl
theorem dX13_holds_0 : decode cX13_holds 0 = .ok (.aload_n 0, 1) := dk_42 (dk_at dksX13_holds_0 0 rfl rfl)
theorem dX13_holds_1 : decode cX13_holds 1 = .ok (.getfield 7, 3) := dk_180 0 7 (dk_at dksX13_holds_0 1 rfl rfl)
theorem dX13_holds_4 : decode cX13_holds 4 = .ok (.aload_n 1, 1) := dk_43 (dk_at dksX13_holds_0 4 rfl rfl)
theorem dX13_holds_5 : decode cX13_holds 5 = .ok (.invokestatic 19, 3) := dk_184 0 19 (dk_at dksX13_holds_0 5 rfl rfl)
theorem dX13_holds_8 : decode cX13_holds 8 = .ok (.istore_n 2, 1) := dk_61 (dk_at dksX13_holds_0 8 rfl rfl)
theorem dX13_holds_9 : decode cX13_holds 9 = .ok (.aload_n 0, 1) := dk_42 (dk_at dksX13_holds_0 9 rfl rfl)
theorem dX13_holds_10 : decode cX13_holds 10 = .ok (.getfield 16, 3) := dk_180 0 16 (dk_at dksX13_holds_0 10 rfl rfl)
theorem dX13_holds_13 : decode cX13_holds 13 = .ok (.aload_n 1, 1) := dk_43 (dk_at dksX13_holds_0 13 rfl rfl)
theorem dX13_holds_14 : decode cX13_holds 14 = .ok (.invokestatic 19, 3) := dk_184 0 19 (dk_at dksX13_holds_0 14 rfl rfl)
theorem dX13_holds_17 : decode cX13_holds 17 = .ok (.istore_n 3, 1) := dk_62 (dk_at dksX13_holds_0 17 rfl rfl)
theorem dX13_holds_18 : decode cX13_holds 18 = .ok (.aload_n 0, 1) := dk_42 (dk_at dksX13_holds_0 18 rfl rfl)
theorem dX13_holds_19 : decode cX13_holds 19 = .ok (.getfield 13, 3) := dk_180 0 13 (dk_at dksX13_holds_0 19 rfl rfl)
theorem dX13_holds_22 : decode cX13_holds 22 = .ok (.bipush 60, 2) := dk_16 60 (dk_at dksX13_holds_0 22 rfl rfl)
theorem dX13_holds_24 : decode cX13_holds 24 = .ok (.if_icmp .ne 16, 3) := dk_160 0 16 (dk_at dksX13_holds_1 0 rfl rfl)
theorem dX13_holds_27 : decode cX13_holds 27 = .ok (.iload_n 2, 1) := dk_28 (dk_at dksX13_holds_1 3 rfl rfl)
theorem dX13_holds_28 : decode cX13_holds 28 = .ok (.iload_n 3, 1) := dk_29 (dk_at dksX13_holds_1 4 rfl rfl)
theorem dX13_holds_29 : decode cX13_holds 29 = .ok (.if_icmp .ge 7, 3) := dk_162 0 7 (dk_at dksX13_holds_1 5 rfl rfl)
theorem dX13_holds_32 : decode cX13_holds 32 = .ok (.iconst 1, 1) := dk_4 (dk_at dksX13_holds_1 8 rfl rfl)
theorem dX13_holds_33 : decode cX13_holds 33 = .ok (.goto 39, 3) := dk_167 0 39 (dk_at dksX13_holds_1 9 rfl rfl)
theorem dX13_holds_36 : decode cX13_holds 36 = .ok (.iconst 0, 1) := dk_3 (dk_at dksX13_holds_1 12 rfl rfl)
theorem dX13_holds_37 : decode cX13_holds 37 = .ok (.goto 35, 3) := dk_167 0 35 (dk_at dksX13_holds_1 13 rfl rfl)
theorem dX13_holds_40 : decode cX13_holds 40 = .ok (.aload_n 0, 1) := dk_42 (dk_at dksX13_holds_1 16 rfl rfl)
theorem dX13_holds_41 : decode cX13_holds 41 = .ok (.getfield 13, 3) := dk_180 0 13 (dk_at dksX13_holds_1 17 rfl rfl)
theorem dX13_holds_44 : decode cX13_holds 44 = .ok (.bipush 62, 2) := dk_16 62 (dk_at dksX13_holds_1 20 rfl rfl)
theorem dX13_holds_46 : decode cX13_holds 46 = .ok (.if_icmp .ne 16, 3) := dk_160 0 16 (dk_at dksX13_holds_2 0 rfl rfl)
theorem dX13_holds_49 : decode cX13_holds 49 = .ok (.iload_n 2, 1) := dk_28 (dk_at dksX13_holds_2 3 rfl rfl)
theorem dX13_holds_50 : decode cX13_holds 50 = .ok (.iload_n 3, 1) := dk_29 (dk_at dksX13_holds_2 4 rfl rfl)
theorem dX13_holds_51 : decode cX13_holds 51 = .ok (.if_icmp .le 7, 3) := dk_164 0 7 (dk_at dksX13_holds_2 5 rfl rfl)
theorem dX13_holds_54 : decode cX13_holds 54 = .ok (.iconst 1, 1) := dk_4 (dk_at dksX13_holds_2 8 rfl rfl)
theorem dX13_holds_55 : decode cX13_holds 55 = .ok (.goto 17, 3) := dk_167 0 17 (dk_at dksX13_holds_2 9 rfl rfl)
theorem dX13_holds_58 : decode cX13_holds 58 = .ok (.iconst 0, 1) := dk_3 (dk_at dksX13_holds_2 12 rfl rfl)
theorem dX13_holds_59 : decode cX13_holds 59 = .ok (.goto 13, 3) := dk_167 0 13 (dk_at dksX13_holds_2 13 rfl rfl)
theorem dX13_holds_62 : decode cX13_holds 62 = .ok (.iload_n 2, 1) := dk_28 (dk_at dksX13_holds_2 16 rfl rfl)
theorem dX13_holds_63 : decode cX13_holds 63 = .ok (.iload_n 3, 1) := dk_29 (dk_at dksX13_holds_2 17 rfl rfl)
theorem dX13_holds_64 : decode cX13_holds 64 = .ok (.if_icmp .ne 7, 3) := dk_160 0 7 (dk_at dksX13_holds_2 18 rfl rfl)
theorem dX13_holds_67 : decode cX13_holds 67 = .ok (.iconst 1, 1) := dk_4 (dk_at dksX13_holds_2 21 rfl rfl)
theorem dX13_holds_68 : decode cX13_holds 68 = .ok (.goto 4, 3) := dk_167 0 4 (dk_at dksX13_holds_3 0 rfl rfl)
theorem dX13_holds_71 : decode cX13_holds 71 = .ok (.iconst 0, 1) := dk_3 (dk_at dksX13_holds_3 3 rfl rfl)
theorem dX13_holds_72 : decode cX13_holds 72 = .ok (.ireturn, 1) := dk_172 (dk_at dksX13_holds_3 4 rfl rfl)
abbrev cX13_worth : ByteArray := prog_3_method_2_code
def yX13_worth : MethodName := ⟨RX13, "worth", "(I[I)I"⟩
def dkwX13_worth_0 : List UInt8 := [26, 155, 0, 7, 26, 167, 0, 8, 43, 2, 26, 100, 46, 172]
abbrev dktX13_worth_0 : List UInt8 := dkwX13_worth_0 ++ []
theorem dksX13_worth_0 : cX13_worth.data.toList.drop 0 = dktX13_worth_0 := by decide +kernel
theorem dX13_worth_0 : decode cX13_worth 0 = .ok (.iload_n 0, 1) := dk_26 (dk_at dksX13_worth_0 0 rfl rfl)
theorem dX13_worth_1 : decode cX13_worth 1 = .ok (.ifCond .lt 7, 3) := dk_155 0 7 (dk_at dksX13_worth_0 1 rfl rfl)
theorem dX13_worth_4 : decode cX13_worth 4 = .ok (.iload_n 0, 1) := dk_26 (dk_at dksX13_worth_0 4 rfl rfl)
theorem dX13_worth_5 : decode cX13_worth 5 = .ok (.goto 8, 3) := dk_167 0 8 (dk_at dksX13_worth_0 5 rfl rfl)
theorem dX13_worth_8 : decode cX13_worth 8 = .ok (.aload_n 1, 1) := dk_43 (dk_at dksX13_worth_0 8 rfl rfl)
theorem dX13_worth_9 : decode cX13_worth 9 = .ok (.iconst (-1), 1) := dk_2 (dk_at dksX13_worth_0 9 rfl rfl)
theorem dX13_worth_10 : decode cX13_worth 10 = .ok (.iload_n 0, 1) := dk_26 (dk_at dksX13_worth_0 10 rfl rfl)
theorem dX13_worth_11 : decode cX13_worth 11 = .ok (.isub, 1) := dk_100 (dk_at dksX13_worth_0 11 rfl rfl)
theorem dX13_worth_12 : decode cX13_worth 12 = .ok (.iaload, 1) := dk_46 (dk_at dksX13_worth_0 12 rfl rfl)
theorem dX13_worth_13 : decode cX13_worth 13 = .ok (.ireturn, 1) := dk_172 (dk_at dksX13_worth_0 13 rfl rfl)
abbrev cX13_init : ByteArray := prog_3_method_1_code
def yX13_init : MethodName := ⟨RX13, "<init>", "(III)V"⟩
def dkwX13_init_0 : List UInt8 := [42, 183, 0, 1, 42, 27, 181, 0, 7, 42, 28, 181, 0, 13, 42, 29, 181, 0, 16, 177]
abbrev dktX13_init_0 : List UInt8 := dkwX13_init_0 ++ []
theorem dksX13_init_0 : cX13_init.data.toList.drop 0 = dktX13_init_0 := by decide +kernel
theorem dX13_init_0 : decode cX13_init 0 = .ok (.aload_n 0, 1) := dk_42 (dk_at dksX13_init_0 0 rfl rfl)
theorem dX13_init_1 : decode cX13_init 1 = .ok (.invokespecial 1, 3) := dk_183 0 1 (dk_at dksX13_init_0 1 rfl rfl)
theorem dX13_init_4 : decode cX13_init 4 = .ok (.aload_n 0, 1) := dk_42 (dk_at dksX13_init_0 4 rfl rfl)
theorem dX13_init_5 : decode cX13_init 5 = .ok (.iload_n 1, 1) := dk_27 (dk_at dksX13_init_0 5 rfl rfl)
theorem dX13_init_6 : decode cX13_init 6 = .ok (.putfield 7, 3) := dk_181 0 7 (dk_at dksX13_init_0 6 rfl rfl)
theorem dX13_init_9 : decode cX13_init 9 = .ok (.aload_n 0, 1) := dk_42 (dk_at dksX13_init_0 9 rfl rfl)
theorem dX13_init_10 : decode cX13_init 10 = .ok (.iload_n 2, 1) := dk_28 (dk_at dksX13_init_0 10 rfl rfl)
theorem dX13_init_11 : decode cX13_init 11 = .ok (.putfield 13, 3) := dk_181 0 13 (dk_at dksX13_init_0 11 rfl rfl)
theorem dX13_init_14 : decode cX13_init 14 = .ok (.aload_n 0, 1) := dk_42 (dk_at dksX13_init_0 14 rfl rfl)
theorem dX13_init_15 : decode cX13_init 15 = .ok (.iload_n 3, 1) := dk_29 (dk_at dksX13_init_0 15 rfl rfl)
theorem dX13_init_16 : decode cX13_init 16 = .ok (.putfield 16, 3) := dk_181 0 16 (dk_at dksX13_init_0 16 rfl rfl)
theorem dX13_init_19 : decode cX13_init 19 = .ok (.return_, 1) := dk_177 (dk_at dksX13_init_0 19 rfl rfl)
theorem q106 : (Jvm.Cond.initialized "RoadHouses$Claim") ∈ lw_all := lw_g (lw_at lw_m1 25 rfl) rfl
theorem q416 : (Jvm.Cond.selects "RoadHouses$Claim" ({ cls := "java/lang/Object", name := "getClass", desc := "()Ljava/lang/Class;" } : Jvm.MethodName) ({ cls := "java/lang/Object", name := "getClass", desc := "()Ljava/lang/Class;" } : Jvm.MethodName)) ∈ lw_all := lw_g (lw_at lw_m2 95 rfl) rfl
theorem q869 : (Jvm.Cond.selects "RoadHouses$Claim" ({ cls := "RoadHouses$Test", name := "holds", desc := "([I)Z" } : Jvm.MethodName) ({ cls := "RoadHouses$Claim", name := "holds", desc := "([I)Z" } : Jvm.MethodName)) ∈ lw_all := lw_g (lw_at lw_m4 68 rfl) rfl
theorem q870 : (Jvm.Cond.instanceMethod ({ cls := "RoadHouses$Claim", name := "holds", desc := "([I)Z" } : Jvm.MethodName)) ∈ lw_all := lw_g (lw_at lw_m4 69 rfl) rfl
theorem q871 : (Jvm.Cond.code ({ cls := "RoadHouses$Claim", name := "holds", desc := "([I)Z" } : Jvm.MethodName) prog_3_method_3_code (4 : Nat) (Option.some Jvm.ClassFile.FieldType.boolean)) ∈ lw_all := lw_g (lw_at lw_m4 70 rfl) rfl
theorem q872 : (Jvm.Cond.methodLink "RoadHouses$Claim" (19 : Nat) ({ cls := "RoadHouses$Claim", name := "worth", desc := "(I[I)I" } : Jvm.MethodName)) ∈ lw_all := lw_g (lw_at lw_m4 71 rfl) rfl
theorem q873 : (Jvm.Cond.static ({ cls := "RoadHouses$Claim", name := "worth", desc := "(I[I)I" } : Jvm.MethodName)) ∈ lw_all := lw_g (lw_at lw_m4 72 rfl) rfl
theorem q874 : (Jvm.Cond.code ({ cls := "RoadHouses$Claim", name := "worth", desc := "(I[I)I" } : Jvm.MethodName) prog_3_method_2_code (2 : Nat) (Option.some Jvm.ClassFile.FieldType.int)) ∈ lw_all := lw_g (lw_at lw_m4 73 rfl) rfl
theorem q1069 : (Jvm.Cond.instantiable "RoadHouses$Claim" (3 : Nat)) ∈ lw_all := lw_g (lw_at lw_m5 28 rfl) rfl
theorem q1071 : (Jvm.Cond.instanceMethod ({ cls := "RoadHouses$Claim", name := "<init>", desc := "(III)V" } : Jvm.MethodName)) ∈ lw_all := lw_g (lw_at lw_m5 30 rfl) rfl
theorem q1072 : (Jvm.Cond.code ({ cls := "RoadHouses$Claim", name := "<init>", desc := "(III)V" } : Jvm.MethodName) prog_3_method_1_code (4 : Nat) (Option.none : Option Jvm.ClassFile.FieldType)) ∈ lw_all := lw_g (lw_at lw_m5 31 rfl) rfl
theorem q1073 : (Jvm.Cond.methodLinkNest "RoadHouses$Claim" (1 : Nat) ({ cls := "RoadHouses$Test", name := "<init>", desc := "()V" } : Jvm.MethodName) "RoadHouses") ∈ lw_tbl := lw_at lw_m5 32 rfl
theorem q1077 : (Jvm.Cond.fieldLink "RoadHouses$Claim" (7 : Nat) "RoadHouses$Claim" "left" "I") ∈ lw_all := lw_g (lw_at lw_m5 36 rfl) rfl
theorem q1078 : (Jvm.Cond.fieldLink "RoadHouses$Claim" (13 : Nat) "RoadHouses$Claim" "sign" "I") ∈ lw_all := lw_g (lw_at lw_m5 37 rfl) rfl
theorem q1079 : (Jvm.Cond.fieldLink "RoadHouses$Claim" (16 : Nat) "RoadHouses$Claim" "right" "I") ∈ lw_all := lw_g (lw_at lw_m5 38 rfl) rfl
theorem q1080 : (Jvm.Cond.laysFinal "RoadHouses$Claim" "RoadHouses$Claim" "left" "I") ∈ lw_all := lw_g (lw_at lw_m5 39 rfl) rfl
theorem q1081 : (Jvm.Cond.soleField "RoadHouses$Claim" "left") ∈ lw_all := lw_g (lw_at lw_m5 40 rfl) rfl
theorem q1082 : (Jvm.Cond.laysFinal "RoadHouses$Claim" "RoadHouses$Claim" "sign" "I") ∈ lw_all := lw_g (lw_at lw_m5 41 rfl) rfl
theorem q1083 : (Jvm.Cond.soleField "RoadHouses$Claim" "sign") ∈ lw_all := lw_g (lw_at lw_m5 42 rfl) rfl
theorem q1084 : (Jvm.Cond.laysFinal "RoadHouses$Claim" "RoadHouses$Claim" "right" "I") ∈ lw_all := lw_g (lw_at lw_m5 43 rfl) rfl
theorem q1085 : (Jvm.Cond.soleField "RoadHouses$Claim" "right") ∈ lw_all := lw_g (lw_at lw_m5 44 rfl) rfl
theorem q1086 : (Jvm.Cond.superclass "RoadHouses$Claim" "RoadHouses$Test") ∈ lw_all := lw_g (lw_at lw_m5 45 rfl) rfl
theorem q2018 : (Jvm.Cond.castable "RoadHouses$Claim" "java/lang/Object") ∈ lw_tbl := lw_at lw_m9 17 rfl
theorem in_X13 : ∀ w ∈ wsX130, w ∈ lw_all := lw_in wsX130 [1080, 1082, 1084] (by decide +kernel) (by decide +kernel)
/-! RoadHouses$Raid -/
set_option maxRecDepth 100000
def RX14 : String := "RoadHouses$Raid"
def TX14 : u_T := fun k => match k with
  | 0 => ("RoadHouses$Raid", "place", "LRoadHouses$Place;", true)
  | _ => ("RoadHouses$Raid", "hour", "I", true)
def tyX14 : Nat → FieldType := fun k => match k with
  | 0 => .object "RoadHouses$Place"
  | _ => .int
abbrev wsX140 : List Cond := u_ws RX14 TX14 2
theorem nmX14 : ∀ a, a < 2 → ∀ b, b < 2 → a ≠ b → (TX14 a).2.1 ≠ (TX14 b).2.1 := by decide +kernel
theorem tyX14_ok : ∀ k, k < 2 → parseFieldDescriptor (TX14 k).2.2.1 = some (tyX14 k) := by decide +kernel
abbrev cX14_init : ByteArray := prog_12_method_1_code
def yX14_init : MethodName := ⟨RX14, "<init>", "(LRoadHouses$Place;I)V"⟩
def dkwX14_init_0 : List UInt8 := [42, 183, 0, 1, 42, 43, 181, 0, 7, 42, 28, 181, 0, 13, 177]
abbrev dktX14_init_0 : List UInt8 := dkwX14_init_0 ++ []
theorem dksX14_init_0 : cX14_init.data.toList.drop 0 = dktX14_init_0 := by decide +kernel
theorem dX14_init_0 : decode cX14_init 0 = .ok (.aload_n 0, 1) := dk_42 (dk_at dksX14_init_0 0 rfl rfl)
theorem dX14_init_1 : decode cX14_init 1 = .ok (.invokespecial 1, 3) := dk_183 0 1 (dk_at dksX14_init_0 1 rfl rfl)
theorem dX14_init_4 : decode cX14_init 4 = .ok (.aload_n 0, 1) := dk_42 (dk_at dksX14_init_0 4 rfl rfl)
theorem dX14_init_5 : decode cX14_init 5 = .ok (.aload_n 1, 1) := dk_43 (dk_at dksX14_init_0 5 rfl rfl)
theorem dX14_init_6 : decode cX14_init 6 = .ok (.putfield 7, 3) := dk_181 0 7 (dk_at dksX14_init_0 6 rfl rfl)
theorem dX14_init_9 : decode cX14_init 9 = .ok (.aload_n 0, 1) := dk_42 (dk_at dksX14_init_0 9 rfl rfl)
theorem dX14_init_10 : decode cX14_init 10 = .ok (.iload_n 2, 1) := dk_28 (dk_at dksX14_init_0 10 rfl rfl)
theorem dX14_init_11 : decode cX14_init 11 = .ok (.putfield 13, 3) := dk_181 0 13 (dk_at dksX14_init_0 11 rfl rfl)
theorem dX14_init_14 : decode cX14_init 14 = .ok (.return_, 1) := dk_177 (dk_at dksX14_init_0 14 rfl rfl)
theorem q107 : (Jvm.Cond.initialized "RoadHouses$Raid") ∈ lw_all := lw_g (lw_at lw_m1 26 rfl) rfl
theorem q425 : (Jvm.Cond.selects "RoadHouses$Raid" ({ cls := "java/lang/Object", name := "getClass", desc := "()Ljava/lang/Class;" } : Jvm.MethodName) ({ cls := "java/lang/Object", name := "getClass", desc := "()Ljava/lang/Class;" } : Jvm.MethodName)) ∈ lw_all := lw_g (lw_at lw_m2 104 rfl) rfl
theorem q898 : (Jvm.Cond.instantiable "RoadHouses$Raid" (2 : Nat)) ∈ lw_all := lw_g (lw_at lw_m4 97 rfl) rfl
theorem q900 : (Jvm.Cond.instanceMethod ({ cls := "RoadHouses$Raid", name := "<init>", desc := "(LRoadHouses$Place;I)V" } : Jvm.MethodName)) ∈ lw_all := lw_g (lw_at lw_m4 99 rfl) rfl
theorem q901 : (Jvm.Cond.code ({ cls := "RoadHouses$Raid", name := "<init>", desc := "(LRoadHouses$Place;I)V" } : Jvm.MethodName) prog_12_method_1_code (3 : Nat) (Option.none : Option Jvm.ClassFile.FieldType)) ∈ lw_all := lw_g (lw_at lw_m4 100 rfl) rfl
theorem q902 : (Jvm.Cond.methodLink "RoadHouses$Raid" (1 : Nat) ({ cls := "java/lang/Object", name := "<init>", desc := "()V" } : Jvm.MethodName)) ∈ lw_all := lw_g (lw_at lw_m4 101 rfl) rfl
theorem q903 : (Jvm.Cond.fieldLink "RoadHouses$Raid" (7 : Nat) "RoadHouses$Raid" "place" "LRoadHouses$Place;") ∈ lw_all := lw_g (lw_at lw_m4 102 rfl) rfl
theorem q905 : (Jvm.Cond.fieldLink "RoadHouses$Raid" (13 : Nat) "RoadHouses$Raid" "hour" "I") ∈ lw_all := lw_g (lw_at lw_m4 104 rfl) rfl
theorem q907 : (Jvm.Cond.laysFinal "RoadHouses$Raid" "RoadHouses$Raid" "place" "LRoadHouses$Place;") ∈ lw_all := lw_g (lw_at lw_m4 106 rfl) rfl
theorem q908 : (Jvm.Cond.soleField "RoadHouses$Raid" "place") ∈ lw_all := lw_g (lw_at lw_m4 107 rfl) rfl
theorem q909 : (Jvm.Cond.laysFinal "RoadHouses$Raid" "RoadHouses$Raid" "hour" "I") ∈ lw_all := lw_g (lw_at lw_m4 108 rfl) rfl
theorem q910 : (Jvm.Cond.soleField "RoadHouses$Raid" "hour") ∈ lw_all := lw_g (lw_at lw_m4 109 rfl) rfl
theorem q911 : (Jvm.Cond.superclass "RoadHouses$Raid" "java/lang/Object") ∈ lw_all := lw_g (lw_at lw_m4 110 rfl) rfl
theorem q2016 : (Jvm.Cond.castable "RoadHouses$Raid" "java/lang/Object") ∈ lw_tbl := lw_at lw_m9 15 rfl
theorem in_X14 : ∀ w ∈ wsX140, w ∈ lw_all := lw_in wsX140 [907, 909] (by decide +kernel) (by decide +kernel)
/-! RoadHouses$Law -/
set_option maxRecDepth 100000
def RX15 : String := "RoadHouses$Law"
def TX15 : u_T := fun k => match k with
  | 0 => ("RoadHouses$Law", "kind", "I", false)
  | 1 => ("RoadHouses$Law", "lands", "I", false)
  | 2 => ("RoadHouses$Law", "test", "LRoadHouses$Test;", false)
  | 3 => ("RoadHouses$Law", "from", "I", false)
  | 4 => ("RoadHouses$Law", "to", "I", false)
  | _ => ("RoadHouses$Law", "struck", "I", false)
def tyX15 : Nat → FieldType := fun k => match k with
  | 0 => .int
  | 1 => .int
  | 2 => .object "RoadHouses$Test"
  | 3 => .int
  | 4 => .int
  | _ => .int
abbrev wsX150 : List Cond := u_ws RX15 TX15 6
theorem nmX15 : ∀ a, a < 6 → ∀ b, b < 6 → a ≠ b → (TX15 a).2.1 ≠ (TX15 b).2.1 := by decide +kernel
theorem tyX15_ok : ∀ k, k < 6 → parseFieldDescriptor (TX15 k).2.2.1 = some (tyX15 k) := by decide +kernel
abbrev cX15_isInForce : ByteArray := prog_9_method_2_code
def yX15_isInForce : MethodName := ⟨RX15, "isInForce", "(I)Z"⟩
def dkwX15_isInForce_1 : List UInt8 := [42, 180, 0, 15, 27, 164, 0, 7, 4, 167, 0, 4, 3, 172]
abbrev dktX15_isInForce_1 : List UInt8 := dkwX15_isInForce_1 ++ []
def dkwX15_isInForce_0 : List UInt8 := [27, 42, 180, 0, 18, 42, 180, 0, 9, 184, 0, 21, 153, 0, 24, 42, 180, 0, 15, 16, 252, 159, 0, 11]
abbrev dktX15_isInForce_0 : List UInt8 := dkwX15_isInForce_0 ++ dktX15_isInForce_1
theorem dksX15_isInForce_0 : cX15_isInForce.data.toList.drop 0 = dktX15_isInForce_0 := by decide +kernel
theorem dksX15_isInForce_1 : cX15_isInForce.data.toList.drop 24 = dktX15_isInForce_1 := dk_seg dksX15_isInForce_0 24 rfl rfl
theorem dX15_isInForce_0 : decode cX15_isInForce 0 = .ok (.iload_n 1, 1) := dk_27 (dk_at dksX15_isInForce_0 0 rfl rfl)
theorem dX15_isInForce_1 : decode cX15_isInForce 1 = .ok (.aload_n 0, 1) := dk_42 (dk_at dksX15_isInForce_0 1 rfl rfl)
theorem dX15_isInForce_2 : decode cX15_isInForce 2 = .ok (.getfield 18, 3) := dk_180 0 18 (dk_at dksX15_isInForce_0 2 rfl rfl)
theorem dX15_isInForce_5 : decode cX15_isInForce 5 = .ok (.aload_n 0, 1) := dk_42 (dk_at dksX15_isInForce_0 5 rfl rfl)
theorem dX15_isInForce_6 : decode cX15_isInForce 6 = .ok (.getfield 9, 3) := dk_180 0 9 (dk_at dksX15_isInForce_0 6 rfl rfl)
theorem dX15_isInForce_9 : decode cX15_isInForce 9 = .ok (.invokestatic 21, 3) := dk_184 0 21 (dk_at dksX15_isInForce_0 9 rfl rfl)
theorem dX15_isInForce_12 : decode cX15_isInForce 12 = .ok (.ifCond .eq 24, 3) := dk_153 0 24 (dk_at dksX15_isInForce_0 12 rfl rfl)
theorem dX15_isInForce_15 : decode cX15_isInForce 15 = .ok (.aload_n 0, 1) := dk_42 (dk_at dksX15_isInForce_0 15 rfl rfl)
theorem dX15_isInForce_16 : decode cX15_isInForce 16 = .ok (.getfield 15, 3) := dk_180 0 15 (dk_at dksX15_isInForce_0 16 rfl rfl)
theorem dX15_isInForce_19 : decode cX15_isInForce 19 = .ok (.bipush (-4), 2) := dk_16 252 (dk_at dksX15_isInForce_0 19 rfl rfl)
theorem dX15_isInForce_21 : decode cX15_isInForce 21 = .ok (.if_icmp .eq 11, 3) := dk_159 0 11 (dk_at dksX15_isInForce_0 21 rfl rfl)
theorem dX15_isInForce_24 : decode cX15_isInForce 24 = .ok (.aload_n 0, 1) := dk_42 (dk_at dksX15_isInForce_1 0 rfl rfl)
theorem dX15_isInForce_25 : decode cX15_isInForce 25 = .ok (.getfield 15, 3) := dk_180 0 15 (dk_at dksX15_isInForce_1 1 rfl rfl)
theorem dX15_isInForce_28 : decode cX15_isInForce 28 = .ok (.iload_n 1, 1) := dk_27 (dk_at dksX15_isInForce_1 4 rfl rfl)
theorem dX15_isInForce_29 : decode cX15_isInForce 29 = .ok (.if_icmp .le 7, 3) := dk_164 0 7 (dk_at dksX15_isInForce_1 5 rfl rfl)
theorem dX15_isInForce_32 : decode cX15_isInForce 32 = .ok (.iconst 1, 1) := dk_4 (dk_at dksX15_isInForce_1 8 rfl rfl)
theorem dX15_isInForce_33 : decode cX15_isInForce 33 = .ok (.goto 4, 3) := dk_167 0 4 (dk_at dksX15_isInForce_1 9 rfl rfl)
theorem dX15_isInForce_36 : decode cX15_isInForce 36 = .ok (.iconst 0, 1) := dk_3 (dk_at dksX15_isInForce_1 12 rfl rfl)
theorem dX15_isInForce_37 : decode cX15_isInForce 37 = .ok (.ireturn, 1) := dk_172 (dk_at dksX15_isInForce_1 13 rfl rfl)
abbrev cX15_init : ByteArray := prog_9_method_1_code
def yX15_init : MethodName := ⟨RX15, "<init>", "()V"⟩
def dkwX15_init_0 : List UInt8 := [42, 183, 0, 3, 42, 17, 1, 160, 181, 0, 9, 42, 16, 252, 181, 0, 15, 177]
abbrev dktX15_init_0 : List UInt8 := dkwX15_init_0 ++ []
theorem dksX15_init_0 : cX15_init.data.toList.drop 0 = dktX15_init_0 := by decide +kernel
theorem dX15_init_0 : decode cX15_init 0 = .ok (.aload_n 0, 1) := dk_42 (dk_at dksX15_init_0 0 rfl rfl)
theorem dX15_init_1 : decode cX15_init 1 = .ok (.invokespecial 3, 3) := dk_183 0 3 (dk_at dksX15_init_0 1 rfl rfl)
theorem dX15_init_4 : decode cX15_init 4 = .ok (.aload_n 0, 1) := dk_42 (dk_at dksX15_init_0 4 rfl rfl)
theorem dX15_init_5 : decode cX15_init 5 = .ok (.sipush 416, 3) := dk_17 1 160 (dk_at dksX15_init_0 5 rfl rfl)
theorem dX15_init_8 : decode cX15_init 8 = .ok (.putfield 9, 3) := dk_181 0 9 (dk_at dksX15_init_0 8 rfl rfl)
theorem dX15_init_11 : decode cX15_init 11 = .ok (.aload_n 0, 1) := dk_42 (dk_at dksX15_init_0 11 rfl rfl)
theorem dX15_init_12 : decode cX15_init 12 = .ok (.bipush (-4), 2) := dk_16 252 (dk_at dksX15_init_0 12 rfl rfl)
theorem dX15_init_14 : decode cX15_init 14 = .ok (.putfield 15, 3) := dk_181 0 15 (dk_at dksX15_init_0 14 rfl rfl)
theorem dX15_init_17 : decode cX15_init 17 = .ok (.return_, 1) := dk_177 (dk_at dksX15_init_0 17 rfl rfl)
theorem q108 : (Jvm.Cond.initialized "RoadHouses$Law") ∈ lw_all := lw_g (lw_at lw_m1 27 rfl) rfl
theorem q422 : (Jvm.Cond.selects "RoadHouses$Law" ({ cls := "java/lang/Object", name := "getClass", desc := "()Ljava/lang/Class;" } : Jvm.MethodName) ({ cls := "java/lang/Object", name := "getClass", desc := "()Ljava/lang/Class;" } : Jvm.MethodName)) ∈ lw_all := lw_g (lw_at lw_m2 101 rfl) rfl
theorem q862 : (Jvm.Cond.instanceMethod ({ cls := "RoadHouses$Law", name := "isInForce", desc := "(I)Z" } : Jvm.MethodName)) ∈ lw_all := lw_g (lw_at lw_m4 61 rfl) rfl
theorem q863 : (Jvm.Cond.selects "RoadHouses$Law" ({ cls := "RoadHouses$Law", name := "isInForce", desc := "(I)Z" } : Jvm.MethodName) ({ cls := "RoadHouses$Law", name := "isInForce", desc := "(I)Z" } : Jvm.MethodName)) ∈ lw_all := lw_g (lw_at lw_m4 62 rfl) rfl
theorem q864 : (Jvm.Cond.code ({ cls := "RoadHouses$Law", name := "isInForce", desc := "(I)Z" } : Jvm.MethodName) prog_9_method_2_code (2 : Nat) (Option.some Jvm.ClassFile.FieldType.boolean)) ∈ lw_all := lw_g (lw_at lw_m4 63 rfl) rfl
theorem q865 : (Jvm.Cond.methodLinkNest "RoadHouses$Law" (21 : Nat) ({ cls := "RoadHouses", name := "isIn", desc := "(III)Z" } : Jvm.MethodName) "RoadHouses") ∈ lw_tbl := lw_at lw_m4 64 rfl
theorem q929 : (Jvm.Cond.instantiable "RoadHouses$Law" (6 : Nat)) ∈ lw_all := lw_g (lw_at lw_m4 128 rfl) rfl
theorem q931 : (Jvm.Cond.instanceMethod ({ cls := "RoadHouses$Law", name := "<init>", desc := "()V" } : Jvm.MethodName)) ∈ lw_all := lw_g (lw_at lw_m4 130 rfl) rfl
theorem q932 : (Jvm.Cond.code ({ cls := "RoadHouses$Law", name := "<init>", desc := "()V" } : Jvm.MethodName) prog_9_method_1_code (1 : Nat) (Option.none : Option Jvm.ClassFile.FieldType)) ∈ lw_all := lw_g (lw_at lw_m4 131 rfl) rfl
theorem q933 : (Jvm.Cond.methodLink "RoadHouses$Law" (3 : Nat) ({ cls := "java/lang/Object", name := "<init>", desc := "()V" } : Jvm.MethodName)) ∈ lw_all := lw_g (lw_at lw_m4 132 rfl) rfl
theorem q937 : (Jvm.Cond.fieldLink "RoadHouses$Law" (18 : Nat) "RoadHouses$Law" "from" "I") ∈ lw_all := lw_g (lw_at lw_m4 136 rfl) rfl
theorem q939 : (Jvm.Cond.fieldLink "RoadHouses$Law" (9 : Nat) "RoadHouses$Law" "to" "I") ∈ lw_all := lw_g (lw_at lw_m4 138 rfl) rfl
theorem q941 : (Jvm.Cond.fieldLink "RoadHouses$Law" (15 : Nat) "RoadHouses$Law" "struck" "I") ∈ lw_all := lw_g (lw_at lw_m4 140 rfl) rfl
theorem q943 : (Jvm.Cond.lays "RoadHouses$Law" "RoadHouses$Law" "kind" "I") ∈ lw_all := lw_g (lw_at lw_m4 142 rfl) rfl
theorem q944 : (Jvm.Cond.soleField "RoadHouses$Law" "kind") ∈ lw_all := lw_g (lw_at lw_m4 143 rfl) rfl
theorem q945 : (Jvm.Cond.lays "RoadHouses$Law" "RoadHouses$Law" "lands" "I") ∈ lw_all := lw_g (lw_at lw_m4 144 rfl) rfl
theorem q946 : (Jvm.Cond.soleField "RoadHouses$Law" "lands") ∈ lw_all := lw_g (lw_at lw_m4 145 rfl) rfl
theorem q947 : (Jvm.Cond.lays "RoadHouses$Law" "RoadHouses$Law" "test" "LRoadHouses$Test;") ∈ lw_all := lw_g (lw_at lw_m4 146 rfl) rfl
theorem q948 : (Jvm.Cond.soleField "RoadHouses$Law" "test") ∈ lw_all := lw_g (lw_at lw_m4 147 rfl) rfl
theorem q949 : (Jvm.Cond.lays "RoadHouses$Law" "RoadHouses$Law" "from" "I") ∈ lw_all := lw_g (lw_at lw_m4 148 rfl) rfl
theorem q950 : (Jvm.Cond.soleField "RoadHouses$Law" "from") ∈ lw_all := lw_g (lw_at lw_m4 149 rfl) rfl
theorem q951 : (Jvm.Cond.lays "RoadHouses$Law" "RoadHouses$Law" "to" "I") ∈ lw_all := lw_g (lw_at lw_m4 150 rfl) rfl
theorem q952 : (Jvm.Cond.soleField "RoadHouses$Law" "to") ∈ lw_all := lw_g (lw_at lw_m4 151 rfl) rfl
theorem q953 : (Jvm.Cond.lays "RoadHouses$Law" "RoadHouses$Law" "struck" "I") ∈ lw_all := lw_g (lw_at lw_m4 152 rfl) rfl
theorem q954 : (Jvm.Cond.soleField "RoadHouses$Law" "struck") ∈ lw_all := lw_g (lw_at lw_m4 153 rfl) rfl
theorem q955 : (Jvm.Cond.superclass "RoadHouses$Law" "java/lang/Object") ∈ lw_all := lw_g (lw_at lw_m4 154 rfl) rfl
theorem q2017 : (Jvm.Cond.castable "RoadHouses$Law" "java/lang/Object") ∈ lw_tbl := lw_at lw_m9 16 rfl
theorem in_X15 : ∀ w ∈ wsX150, w ∈ lw_all := lw_in wsX150 [943, 945, 947, 949, 951, 953] (by decide +kernel) (by decide +kernel)
/-! RoadHouses$Turned -/
set_option maxRecDepth 100000
def RX16 : String := "RoadHouses$Turned"
def TX16 : u_T := fun k => match k with
  | _ => ("RoadHouses$Turned", "inner", "LRoadHouses$Test;", true)
def tyX16 : Nat → FieldType := fun k => match k with
  | _ => .object "RoadHouses$Test"
abbrev wsX160 : List Cond := u_ws RX16 TX16 1
theorem nmX16 : ∀ a, a < 1 → ∀ b, b < 1 → a ≠ b → (TX16 a).2.1 ≠ (TX16 b).2.1 := by decide +kernel
theorem tyX16_ok : ∀ k, k < 1 → parseFieldDescriptor (TX16 k).2.2.1 = some (tyX16 k) := by decide +kernel
abbrev cX16_holds : ByteArray := prog_17_method_2_code
def yX16_holds : MethodName := ⟨RX16, "holds", "([I)Z"⟩
def dkwX16_holds_0 : List UInt8 := [42, 180, 0, 7, 43, 182, 0, 13, 154, 0, 7, 4, 167, 0, 4, 3, 172]
abbrev dktX16_holds_0 : List UInt8 := dkwX16_holds_0 ++ []
theorem dksX16_holds_0 : cX16_holds.data.toList.drop 0 = dktX16_holds_0 := by decide +kernel
theorem dX16_holds_0 : decode cX16_holds 0 = .ok (.aload_n 0, 1) := dk_42 (dk_at dksX16_holds_0 0 rfl rfl)
theorem dX16_holds_1 : decode cX16_holds 1 = .ok (.getfield 7, 3) := dk_180 0 7 (dk_at dksX16_holds_0 1 rfl rfl)
theorem dX16_holds_4 : decode cX16_holds 4 = .ok (.aload_n 1, 1) := dk_43 (dk_at dksX16_holds_0 4 rfl rfl)
theorem dX16_holds_5 : decode cX16_holds 5 = .ok (.invokevirtual 13, 3) := dk_182 0 13 (dk_at dksX16_holds_0 5 rfl rfl)
theorem dX16_holds_8 : decode cX16_holds 8 = .ok (.ifCond .ne 7, 3) := dk_154 0 7 (dk_at dksX16_holds_0 8 rfl rfl)
theorem dX16_holds_11 : decode cX16_holds 11 = .ok (.iconst 1, 1) := dk_4 (dk_at dksX16_holds_0 11 rfl rfl)
theorem dX16_holds_12 : decode cX16_holds 12 = .ok (.goto 4, 3) := dk_167 0 4 (dk_at dksX16_holds_0 12 rfl rfl)
theorem dX16_holds_15 : decode cX16_holds 15 = .ok (.iconst 0, 1) := dk_3 (dk_at dksX16_holds_0 15 rfl rfl)
theorem dX16_holds_16 : decode cX16_holds 16 = .ok (.ireturn, 1) := dk_172 (dk_at dksX16_holds_0 16 rfl rfl)
abbrev cX16_init : ByteArray := prog_17_method_1_code
def yX16_init : MethodName := ⟨RX16, "<init>", "(LRoadHouses$Test;)V"⟩
def dkwX16_init_0 : List UInt8 := [42, 183, 0, 1, 42, 43, 181, 0, 7, 177]
abbrev dktX16_init_0 : List UInt8 := dkwX16_init_0 ++ []
theorem dksX16_init_0 : cX16_init.data.toList.drop 0 = dktX16_init_0 := by decide +kernel
theorem dX16_init_0 : decode cX16_init 0 = .ok (.aload_n 0, 1) := dk_42 (dk_at dksX16_init_0 0 rfl rfl)
theorem dX16_init_1 : decode cX16_init 1 = .ok (.invokespecial 1, 3) := dk_183 0 1 (dk_at dksX16_init_0 1 rfl rfl)
theorem dX16_init_4 : decode cX16_init 4 = .ok (.aload_n 0, 1) := dk_42 (dk_at dksX16_init_0 4 rfl rfl)
theorem dX16_init_5 : decode cX16_init 5 = .ok (.aload_n 1, 1) := dk_43 (dk_at dksX16_init_0 5 rfl rfl)
theorem dX16_init_6 : decode cX16_init 6 = .ok (.putfield 7, 3) := dk_181 0 7 (dk_at dksX16_init_0 6 rfl rfl)
theorem dX16_init_9 : decode cX16_init 9 = .ok (.return_, 1) := dk_177 (dk_at dksX16_init_0 9 rfl rfl)
theorem q113 : (Jvm.Cond.initialized "RoadHouses$Turned") ∈ lw_all := lw_g (lw_at lw_m1 32 rfl) rfl
theorem q429 : (Jvm.Cond.selects "RoadHouses$Turned" ({ cls := "java/lang/Object", name := "getClass", desc := "()Ljava/lang/Class;" } : Jvm.MethodName) ({ cls := "java/lang/Object", name := "getClass", desc := "()Ljava/lang/Class;" } : Jvm.MethodName)) ∈ lw_all := lw_g (lw_at lw_m2 108 rfl) rfl
theorem q879 : (Jvm.Cond.instanceMethod ({ cls := "RoadHouses$Turned", name := "holds", desc := "([I)Z" } : Jvm.MethodName)) ∈ lw_all := lw_g (lw_at lw_m4 78 rfl) rfl
theorem q880 : (Jvm.Cond.code ({ cls := "RoadHouses$Turned", name := "holds", desc := "([I)Z" } : Jvm.MethodName) prog_17_method_2_code (2 : Nat) (Option.some Jvm.ClassFile.FieldType.boolean)) ∈ lw_all := lw_g (lw_at lw_m4 79 rfl) rfl
theorem q881 : (Jvm.Cond.methodLink "RoadHouses$Turned" (13 : Nat) ({ cls := "RoadHouses$Test", name := "holds", desc := "([I)Z" } : Jvm.MethodName)) ∈ lw_all := lw_g (lw_at lw_m4 80 rfl) rfl
theorem q882 : (Jvm.Cond.selects "RoadHouses$Turned" ({ cls := "RoadHouses$Test", name := "holds", desc := "([I)Z" } : Jvm.MethodName) ({ cls := "RoadHouses$Turned", name := "holds", desc := "([I)Z" } : Jvm.MethodName)) ∈ lw_all := lw_g (lw_at lw_m4 81 rfl) rfl
theorem q1088 : (Jvm.Cond.instantiable "RoadHouses$Turned" (1 : Nat)) ∈ lw_all := lw_g (lw_at lw_m5 47 rfl) rfl
theorem q1090 : (Jvm.Cond.instanceMethod ({ cls := "RoadHouses$Turned", name := "<init>", desc := "(LRoadHouses$Test;)V" } : Jvm.MethodName)) ∈ lw_all := lw_g (lw_at lw_m5 49 rfl) rfl
theorem q1091 : (Jvm.Cond.code ({ cls := "RoadHouses$Turned", name := "<init>", desc := "(LRoadHouses$Test;)V" } : Jvm.MethodName) prog_17_method_1_code (2 : Nat) (Option.none : Option Jvm.ClassFile.FieldType)) ∈ lw_all := lw_g (lw_at lw_m5 50 rfl) rfl
theorem q1092 : (Jvm.Cond.methodLinkNest "RoadHouses$Turned" (1 : Nat) ({ cls := "RoadHouses$Test", name := "<init>", desc := "()V" } : Jvm.MethodName) "RoadHouses") ∈ lw_tbl := lw_at lw_m5 51 rfl
theorem q1093 : (Jvm.Cond.fieldLink "RoadHouses$Turned" (7 : Nat) "RoadHouses$Turned" "inner" "LRoadHouses$Test;") ∈ lw_all := lw_g (lw_at lw_m5 52 rfl) rfl
theorem q1094 : (Jvm.Cond.laysFinal "RoadHouses$Turned" "RoadHouses$Turned" "inner" "LRoadHouses$Test;") ∈ lw_all := lw_g (lw_at lw_m5 53 rfl) rfl
theorem q1095 : (Jvm.Cond.soleField "RoadHouses$Turned" "inner") ∈ lw_all := lw_g (lw_at lw_m5 54 rfl) rfl
theorem q1096 : (Jvm.Cond.superclass "RoadHouses$Turned" "RoadHouses$Test") ∈ lw_all := lw_g (lw_at lw_m5 55 rfl) rfl
theorem q2019 : (Jvm.Cond.castable "RoadHouses$Turned" "java/lang/Object") ∈ lw_tbl := lw_at lw_m9 18 rfl
theorem in_X16 : ∀ w ∈ wsX160, w ∈ lw_all := lw_in wsX160 [1094] (by decide +kernel) (by decide +kernel)
/-! RoadHouses$Joined -/
set_option maxRecDepth 100000
def RX17 : String := "RoadHouses$Joined"
def TX17 : u_T := fun k => match k with
  | 0 => ("RoadHouses$Joined", "left", "LRoadHouses$Test;", true)
  | 1 => ("RoadHouses$Joined", "isAll", "Z", true)
  | _ => ("RoadHouses$Joined", "right", "LRoadHouses$Test;", true)
def tyX17 : Nat → FieldType := fun k => match k with
  | 0 => .object "RoadHouses$Test"
  | 1 => .boolean
  | _ => .object "RoadHouses$Test"
abbrev wsX170 : List Cond := u_ws RX17 TX17 3
theorem nmX17 : ∀ a, a < 3 → ∀ b, b < 3 → a ≠ b → (TX17 a).2.1 ≠ (TX17 b).2.1 := by decide +kernel
theorem tyX17_ok : ∀ k, k < 3 → parseFieldDescriptor (TX17 k).2.2.1 = some (tyX17 k) := by decide +kernel
abbrev cX17_holds : ByteArray := prog_8_method_2_code
def yX17_holds : MethodName := ⟨RX17, "holds", "([I)Z"⟩
def dkwX17_holds_2 : List UInt8 := [154, 0, 14, 42, 180, 0, 17, 43, 182, 0, 20, 153, 0, 7, 4, 167, 0, 4, 3, 172]
abbrev dktX17_holds_2 : List UInt8 := dkwX17_holds_2 ++ []
def dkwX17_holds_1 : List UInt8 := [182, 0, 20, 153, 0, 7, 4, 167, 0, 34, 3, 167, 0, 30, 42, 180, 0, 7, 43, 182, 0, 20]
abbrev dktX17_holds_1 : List UInt8 := dkwX17_holds_1 ++ dktX17_holds_2
def dkwX17_holds_0 : List UInt8 := [42, 180, 0, 13, 153, 0, 33, 42, 180, 0, 7, 43, 182, 0, 20, 153, 0, 18, 42, 180, 0, 17, 43]
abbrev dktX17_holds_0 : List UInt8 := dkwX17_holds_0 ++ dktX17_holds_1
theorem dksX17_holds_0 : cX17_holds.data.toList.drop 0 = dktX17_holds_0 := by decide +kernel
theorem dksX17_holds_1 : cX17_holds.data.toList.drop 23 = dktX17_holds_1 := dk_seg dksX17_holds_0 23 rfl rfl
theorem dksX17_holds_2 : cX17_holds.data.toList.drop 45 = dktX17_holds_2 := dk_seg dksX17_holds_1 22 rfl rfl
theorem dX17_holds_0 : decode cX17_holds 0 = .ok (.aload_n 0, 1) := dk_42 (dk_at dksX17_holds_0 0 rfl rfl)
theorem dX17_holds_1 : decode cX17_holds 1 = .ok (.getfield 13, 3) := dk_180 0 13 (dk_at dksX17_holds_0 1 rfl rfl)
theorem dX17_holds_4 : decode cX17_holds 4 = .ok (.ifCond .eq 33, 3) := dk_153 0 33 (dk_at dksX17_holds_0 4 rfl rfl)
theorem dX17_holds_7 : decode cX17_holds 7 = .ok (.aload_n 0, 1) := dk_42 (dk_at dksX17_holds_0 7 rfl rfl)
theorem dX17_holds_8 : decode cX17_holds 8 = .ok (.getfield 7, 3) := dk_180 0 7 (dk_at dksX17_holds_0 8 rfl rfl)
theorem dX17_holds_11 : decode cX17_holds 11 = .ok (.aload_n 1, 1) := dk_43 (dk_at dksX17_holds_0 11 rfl rfl)
theorem dX17_holds_12 : decode cX17_holds 12 = .ok (.invokevirtual 20, 3) := dk_182 0 20 (dk_at dksX17_holds_0 12 rfl rfl)
theorem dX17_holds_15 : decode cX17_holds 15 = .ok (.ifCond .eq 18, 3) := dk_153 0 18 (dk_at dksX17_holds_0 15 rfl rfl)
theorem dX17_holds_18 : decode cX17_holds 18 = .ok (.aload_n 0, 1) := dk_42 (dk_at dksX17_holds_0 18 rfl rfl)
theorem dX17_holds_19 : decode cX17_holds 19 = .ok (.getfield 17, 3) := dk_180 0 17 (dk_at dksX17_holds_0 19 rfl rfl)
theorem dX17_holds_22 : decode cX17_holds 22 = .ok (.aload_n 1, 1) := dk_43 (dk_at dksX17_holds_0 22 rfl rfl)
theorem dX17_holds_23 : decode cX17_holds 23 = .ok (.invokevirtual 20, 3) := dk_182 0 20 (dk_at dksX17_holds_1 0 rfl rfl)
theorem dX17_holds_26 : decode cX17_holds 26 = .ok (.ifCond .eq 7, 3) := dk_153 0 7 (dk_at dksX17_holds_1 3 rfl rfl)
theorem dX17_holds_29 : decode cX17_holds 29 = .ok (.iconst 1, 1) := dk_4 (dk_at dksX17_holds_1 6 rfl rfl)
theorem dX17_holds_30 : decode cX17_holds 30 = .ok (.goto 34, 3) := dk_167 0 34 (dk_at dksX17_holds_1 7 rfl rfl)
theorem dX17_holds_33 : decode cX17_holds 33 = .ok (.iconst 0, 1) := dk_3 (dk_at dksX17_holds_1 10 rfl rfl)
theorem dX17_holds_34 : decode cX17_holds 34 = .ok (.goto 30, 3) := dk_167 0 30 (dk_at dksX17_holds_1 11 rfl rfl)
theorem dX17_holds_37 : decode cX17_holds 37 = .ok (.aload_n 0, 1) := dk_42 (dk_at dksX17_holds_1 14 rfl rfl)
theorem dX17_holds_38 : decode cX17_holds 38 = .ok (.getfield 7, 3) := dk_180 0 7 (dk_at dksX17_holds_1 15 rfl rfl)
theorem dX17_holds_41 : decode cX17_holds 41 = .ok (.aload_n 1, 1) := dk_43 (dk_at dksX17_holds_1 18 rfl rfl)
theorem dX17_holds_42 : decode cX17_holds 42 = .ok (.invokevirtual 20, 3) := dk_182 0 20 (dk_at dksX17_holds_1 19 rfl rfl)
theorem dX17_holds_45 : decode cX17_holds 45 = .ok (.ifCond .ne 14, 3) := dk_154 0 14 (dk_at dksX17_holds_2 0 rfl rfl)
theorem dX17_holds_48 : decode cX17_holds 48 = .ok (.aload_n 0, 1) := dk_42 (dk_at dksX17_holds_2 3 rfl rfl)
theorem dX17_holds_49 : decode cX17_holds 49 = .ok (.getfield 17, 3) := dk_180 0 17 (dk_at dksX17_holds_2 4 rfl rfl)
theorem dX17_holds_52 : decode cX17_holds 52 = .ok (.aload_n 1, 1) := dk_43 (dk_at dksX17_holds_2 7 rfl rfl)
theorem dX17_holds_53 : decode cX17_holds 53 = .ok (.invokevirtual 20, 3) := dk_182 0 20 (dk_at dksX17_holds_2 8 rfl rfl)
theorem dX17_holds_56 : decode cX17_holds 56 = .ok (.ifCond .eq 7, 3) := dk_153 0 7 (dk_at dksX17_holds_2 11 rfl rfl)
theorem dX17_holds_59 : decode cX17_holds 59 = .ok (.iconst 1, 1) := dk_4 (dk_at dksX17_holds_2 14 rfl rfl)
theorem dX17_holds_60 : decode cX17_holds 60 = .ok (.goto 4, 3) := dk_167 0 4 (dk_at dksX17_holds_2 15 rfl rfl)
theorem dX17_holds_63 : decode cX17_holds 63 = .ok (.iconst 0, 1) := dk_3 (dk_at dksX17_holds_2 18 rfl rfl)
theorem dX17_holds_64 : decode cX17_holds 64 = .ok (.ireturn, 1) := dk_172 (dk_at dksX17_holds_2 19 rfl rfl)
abbrev cX17_init : ByteArray := prog_8_method_1_code
def yX17_init : MethodName := ⟨RX17, "<init>", "(LRoadHouses$Test;ZLRoadHouses$Test;)V"⟩
def dkwX17_init_0 : List UInt8 := [42, 183, 0, 1, 42, 43, 181, 0, 7, 42, 28, 181, 0, 13, 42, 45, 181, 0, 17, 177]
abbrev dktX17_init_0 : List UInt8 := dkwX17_init_0 ++ []
theorem dksX17_init_0 : cX17_init.data.toList.drop 0 = dktX17_init_0 := by decide +kernel
theorem dX17_init_0 : decode cX17_init 0 = .ok (.aload_n 0, 1) := dk_42 (dk_at dksX17_init_0 0 rfl rfl)
theorem dX17_init_1 : decode cX17_init 1 = .ok (.invokespecial 1, 3) := dk_183 0 1 (dk_at dksX17_init_0 1 rfl rfl)
theorem dX17_init_4 : decode cX17_init 4 = .ok (.aload_n 0, 1) := dk_42 (dk_at dksX17_init_0 4 rfl rfl)
theorem dX17_init_5 : decode cX17_init 5 = .ok (.aload_n 1, 1) := dk_43 (dk_at dksX17_init_0 5 rfl rfl)
theorem dX17_init_6 : decode cX17_init 6 = .ok (.putfield 7, 3) := dk_181 0 7 (dk_at dksX17_init_0 6 rfl rfl)
theorem dX17_init_9 : decode cX17_init 9 = .ok (.aload_n 0, 1) := dk_42 (dk_at dksX17_init_0 9 rfl rfl)
theorem dX17_init_10 : decode cX17_init 10 = .ok (.iload_n 2, 1) := dk_28 (dk_at dksX17_init_0 10 rfl rfl)
theorem dX17_init_11 : decode cX17_init 11 = .ok (.putfield 13, 3) := dk_181 0 13 (dk_at dksX17_init_0 11 rfl rfl)
theorem dX17_init_14 : decode cX17_init 14 = .ok (.aload_n 0, 1) := dk_42 (dk_at dksX17_init_0 14 rfl rfl)
theorem dX17_init_15 : decode cX17_init 15 = .ok (.aload_n 3, 1) := dk_45 (dk_at dksX17_init_0 15 rfl rfl)
theorem dX17_init_16 : decode cX17_init 16 = .ok (.putfield 17, 3) := dk_181 0 17 (dk_at dksX17_init_0 16 rfl rfl)
theorem dX17_init_19 : decode cX17_init 19 = .ok (.return_, 1) := dk_177 (dk_at dksX17_init_0 19 rfl rfl)
theorem q114 : (Jvm.Cond.initialized "RoadHouses$Joined") ∈ lw_all := lw_g (lw_at lw_m1 33 rfl) rfl
theorem q421 : (Jvm.Cond.selects "RoadHouses$Joined" ({ cls := "java/lang/Object", name := "getClass", desc := "()Ljava/lang/Class;" } : Jvm.MethodName) ({ cls := "java/lang/Object", name := "getClass", desc := "()Ljava/lang/Class;" } : Jvm.MethodName)) ∈ lw_all := lw_g (lw_at lw_m2 100 rfl) rfl
theorem q875 : (Jvm.Cond.selects "RoadHouses$Joined" ({ cls := "RoadHouses$Test", name := "holds", desc := "([I)Z" } : Jvm.MethodName) ({ cls := "RoadHouses$Joined", name := "holds", desc := "([I)Z" } : Jvm.MethodName)) ∈ lw_all := lw_g (lw_at lw_m4 74 rfl) rfl
theorem q876 : (Jvm.Cond.instanceMethod ({ cls := "RoadHouses$Joined", name := "holds", desc := "([I)Z" } : Jvm.MethodName)) ∈ lw_all := lw_g (lw_at lw_m4 75 rfl) rfl
theorem q877 : (Jvm.Cond.code ({ cls := "RoadHouses$Joined", name := "holds", desc := "([I)Z" } : Jvm.MethodName) prog_8_method_2_code (2 : Nat) (Option.some Jvm.ClassFile.FieldType.boolean)) ∈ lw_all := lw_g (lw_at lw_m4 76 rfl) rfl
theorem q878 : (Jvm.Cond.methodLink "RoadHouses$Joined" (20 : Nat) ({ cls := "RoadHouses$Test", name := "holds", desc := "([I)Z" } : Jvm.MethodName)) ∈ lw_all := lw_g (lw_at lw_m4 77 rfl) rfl
theorem q1098 : (Jvm.Cond.instantiable "RoadHouses$Joined" (3 : Nat)) ∈ lw_all := lw_g (lw_at lw_m5 57 rfl) rfl
theorem q1100 : (Jvm.Cond.instanceMethod ({ cls := "RoadHouses$Joined", name := "<init>", desc := "(LRoadHouses$Test;ZLRoadHouses$Test;)V" } : Jvm.MethodName)) ∈ lw_all := lw_g (lw_at lw_m5 59 rfl) rfl
theorem q1101 : (Jvm.Cond.code ({ cls := "RoadHouses$Joined", name := "<init>", desc := "(LRoadHouses$Test;ZLRoadHouses$Test;)V" } : Jvm.MethodName) prog_8_method_1_code (4 : Nat) (Option.none : Option Jvm.ClassFile.FieldType)) ∈ lw_all := lw_g (lw_at lw_m5 60 rfl) rfl
theorem q1102 : (Jvm.Cond.methodLinkNest "RoadHouses$Joined" (1 : Nat) ({ cls := "RoadHouses$Test", name := "<init>", desc := "()V" } : Jvm.MethodName) "RoadHouses") ∈ lw_tbl := lw_at lw_m5 61 rfl
theorem q1103 : (Jvm.Cond.fieldLink "RoadHouses$Joined" (7 : Nat) "RoadHouses$Joined" "left" "LRoadHouses$Test;") ∈ lw_all := lw_g (lw_at lw_m5 62 rfl) rfl
theorem q1104 : (Jvm.Cond.fieldLink "RoadHouses$Joined" (13 : Nat) "RoadHouses$Joined" "isAll" "Z") ∈ lw_all := lw_g (lw_at lw_m5 63 rfl) rfl
theorem q1105 : (Jvm.Cond.fieldLink "RoadHouses$Joined" (17 : Nat) "RoadHouses$Joined" "right" "LRoadHouses$Test;") ∈ lw_all := lw_g (lw_at lw_m5 64 rfl) rfl
theorem q1106 : (Jvm.Cond.laysFinal "RoadHouses$Joined" "RoadHouses$Joined" "left" "LRoadHouses$Test;") ∈ lw_all := lw_g (lw_at lw_m5 65 rfl) rfl
theorem q1107 : (Jvm.Cond.soleField "RoadHouses$Joined" "left") ∈ lw_all := lw_g (lw_at lw_m5 66 rfl) rfl
theorem q1108 : (Jvm.Cond.laysFinal "RoadHouses$Joined" "RoadHouses$Joined" "isAll" "Z") ∈ lw_all := lw_g (lw_at lw_m5 67 rfl) rfl
theorem q1109 : (Jvm.Cond.soleField "RoadHouses$Joined" "isAll") ∈ lw_all := lw_g (lw_at lw_m5 68 rfl) rfl
theorem q1110 : (Jvm.Cond.laysFinal "RoadHouses$Joined" "RoadHouses$Joined" "right" "LRoadHouses$Test;") ∈ lw_all := lw_g (lw_at lw_m5 69 rfl) rfl
theorem q1111 : (Jvm.Cond.soleField "RoadHouses$Joined" "right") ∈ lw_all := lw_g (lw_at lw_m5 70 rfl) rfl
theorem q1112 : (Jvm.Cond.superclass "RoadHouses$Joined" "RoadHouses$Test") ∈ lw_all := lw_g (lw_at lw_m5 71 rfl) rfl
theorem q2020 : (Jvm.Cond.castable "RoadHouses$Joined" "java/lang/Object") ∈ lw_tbl := lw_at lw_m9 19 rfl
theorem in_X17 : ∀ w ∈ wsX170, w ∈ lw_all := lw_in wsX170 [1106, 1108, 1110] (by decide +kernel) (by decide +kernel)
