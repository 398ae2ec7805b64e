/-! MendedThings$Island -/
set_option maxRecDepth 100000
def RX1 : String := "MendedThings$Island"
def TX1 : u_T := fun k => match k with
  | 0 => ("MendedThings$Island", "statements", "I", false)
  | 1 => ("MendedThings$Island", "cat", "I", false)
  | 2 => ("MendedThings$Island", "things", "Ljava/util/List;", true)
  | 3 => ("MendedThings$Island", "menders", "Ljava/util/List;", true)
  | 4 => ("MendedThings$Island", "trials", "Ljava/util/List;", true)
  | 5 => ("MendedThings$Island", "stands", "LMendedThings$Test;", false)
  | 6 => ("MendedThings$Island", "falls", "LMendedThings$Test;", false)
  | 7 => ("MendedThings$Island", "takes", "LMendedThings$Value;", false)
  | 8 => ("MendedThings$Island", "fine", "LMendedThings$Value;", false)
  | _ => ("MendedThings$Island", "first", "LMendedThings$Value;", false)
def tyX1 : Nat → FieldType := fun k => match k with
  | 0 => .int
  | 1 => .int
  | 2 => .object "java/util/List"
  | 3 => .object "java/util/List"
  | 4 => .object "java/util/List"
  | 5 => .object "MendedThings$Test"
  | 6 => .object "MendedThings$Test"
  | 7 => .object "MendedThings$Value"
  | 8 => .object "MendedThings$Value"
  | _ => .object "MendedThings$Value"
abbrev wsX10 : List Cond := u_ws RX1 TX1 10
theorem nmX1 : ∀ a, a < 10 → ∀ b, b < 10 → a ≠ b → (TX1 a).2.1 ≠ (TX1 b).2.1 := by decide +kernel
theorem tyX1_ok : ∀ k, k < 10 → parseFieldDescriptor (TX1 k).2.2.1 = some (tyX1 k) := by decide +kernel
abbrev cX1_init : ByteArray := prog_8_method_1_code
def yX1_init : MethodName := ⟨RX1, "<init>", "()V"⟩
def dkwX1_init_1 : List UInt8 := [183, 0, 11, 181, 0, 20, 42, 187, 0, 9, 89, 5, 183, 0, 11, 181, 0, 23, 177]
abbrev dktX1_init_1 : List UInt8 := dkwX1_init_1 ++ []
def dkwX1_init_0 : List UInt8 := [42, 183, 0, 3, 42, 187, 0, 9, 89, 7, 183, 0, 11, 181, 0, 14, 42, 187, 0, 9, 89, 5]
abbrev dktX1_init_0 : List UInt8 := dkwX1_init_0 ++ dktX1_init_1
theorem dksX1_init_0 : cX1_init.data.toList.drop 0 = dktX1_init_0 := by decide +kernel
theorem dksX1_init_1 : cX1_init.data.toList.drop 22 = dktX1_init_1 := dk_seg dksX1_init_0 22 rfl rfl
theorem dX1_init_0 : decode cX1_init 0 = .ok (.aload_n 0, 1) := dk_42 (dk_at dksX1_init_0 0 rfl rfl)
theorem dX1_init_1 : decode cX1_init 1 = .ok (.invokespecial 3, 3) := dk_183 0 3 (dk_at dksX1_init_0 1 rfl rfl)
theorem dX1_init_4 : decode cX1_init 4 = .ok (.aload_n 0, 1) := dk_42 (dk_at dksX1_init_0 4 rfl rfl)
theorem dX1_init_5 : decode cX1_init 5 = .ok (.new 9, 3) := dk_187 0 9 (dk_at dksX1_init_0 5 rfl rfl)
theorem dX1_init_8 : decode cX1_init 8 = .ok (.dup, 1) := dk_89 (dk_at dksX1_init_0 8 rfl rfl)
theorem dX1_init_9 : decode cX1_init 9 = .ok (.iconst 4, 1) := dk_7 (dk_at dksX1_init_0 9 rfl rfl)
theorem dX1_init_10 : decode cX1_init 10 = .ok (.invokespecial 11, 3) := dk_183 0 11 (dk_at dksX1_init_0 10 rfl rfl)
theorem dX1_init_13 : decode cX1_init 13 = .ok (.putfield 14, 3) := dk_181 0 14 (dk_at dksX1_init_0 13 rfl rfl)
theorem dX1_init_16 : decode cX1_init 16 = .ok (.aload_n 0, 1) := dk_42 (dk_at dksX1_init_0 16 rfl rfl)
theorem dX1_init_17 : decode cX1_init 17 = .ok (.new 9, 3) := dk_187 0 9 (dk_at dksX1_init_0 17 rfl rfl)
theorem dX1_init_20 : decode cX1_init 20 = .ok (.dup, 1) := dk_89 (dk_at dksX1_init_0 20 rfl rfl)
theorem dX1_init_21 : decode cX1_init 21 = .ok (.iconst 2, 1) := dk_5 (dk_at dksX1_init_0 21 rfl rfl)
theorem dX1_init_22 : decode cX1_init 22 = .ok (.invokespecial 11, 3) := dk_183 0 11 (dk_at dksX1_init_1 0 rfl rfl)
theorem dX1_init_25 : decode cX1_init 25 = .ok (.putfield 20, 3) := dk_181 0 20 (dk_at dksX1_init_1 3 rfl rfl)
theorem dX1_init_28 : decode cX1_init 28 = .ok (.aload_n 0, 1) := dk_42 (dk_at dksX1_init_1 6 rfl rfl)
theorem dX1_init_29 : decode cX1_init 29 = .ok (.new 9, 3) := dk_187 0 9 (dk_at dksX1_init_1 7 rfl rfl)
theorem dX1_init_32 : decode cX1_init 32 = .ok (.dup, 1) := dk_89 (dk_at dksX1_init_1 10 rfl rfl)
theorem dX1_init_33 : decode cX1_init 33 = .ok (.iconst 2, 1) := dk_5 (dk_at dksX1_init_1 11 rfl rfl)
theorem dX1_init_34 : decode cX1_init 34 = .ok (.invokespecial 11, 3) := dk_183 0 11 (dk_at dksX1_init_1 12 rfl rfl)
theorem dX1_init_37 : decode cX1_init 37 = .ok (.putfield 23, 3) := dk_181 0 23 (dk_at dksX1_init_1 15 rfl rfl)
theorem dX1_init_40 : decode cX1_init 40 = .ok (.return_, 1) := dk_177 (dk_at dksX1_init_1 18 rfl rfl)
abbrev cX1_isNamed : ByteArray := prog_8_method_2_code
def yX1_isNamed : MethodName := ⟨RX1, "isNamed", "(Ljava/lang/String;)Z"⟩
def dkwX1_isNamed_1 : List UInt8 := [42, 180, 0, 23, 43, 184, 0, 26, 2, 159, 0, 7, 4, 167, 0, 4, 3, 172]
abbrev dktX1_isNamed_1 : List UInt8 := dkwX1_isNamed_1 ++ []
def dkwX1_isNamed_0 : List UInt8 := [42, 180, 0, 14, 43, 184, 0, 26, 2, 160, 0, 27, 42, 180, 0, 20, 43, 184, 0, 26, 2, 160, 0, 15]
abbrev dktX1_isNamed_0 : List UInt8 := dkwX1_isNamed_0 ++ dktX1_isNamed_1
theorem dksX1_isNamed_0 : cX1_isNamed.data.toList.drop 0 = dktX1_isNamed_0 := by decide +kernel
theorem dksX1_isNamed_1 : cX1_isNamed.data.toList.drop 24 = dktX1_isNamed_1 := dk_seg dksX1_isNamed_0 24 rfl rfl
theorem dX1_isNamed_0 : decode cX1_isNamed 0 = .ok (.aload_n 0, 1) := dk_42 (dk_at dksX1_isNamed_0 0 rfl rfl)
theorem dX1_isNamed_1 : decode cX1_isNamed 1 = .ok (.getfield 14, 3) := dk_180 0 14 (dk_at dksX1_isNamed_0 1 rfl rfl)
theorem dX1_isNamed_4 : decode cX1_isNamed 4 = .ok (.aload_n 1, 1) := dk_43 (dk_at dksX1_isNamed_0 4 rfl rfl)
theorem dX1_isNamed_5 : decode cX1_isNamed 5 = .ok (.invokestatic 26, 3) := dk_184 0 26 (dk_at dksX1_isNamed_0 5 rfl rfl)
theorem dX1_isNamed_8 : decode cX1_isNamed 8 = .ok (.iconst (-1), 1) := dk_2 (dk_at dksX1_isNamed_0 8 rfl rfl)
theorem dX1_isNamed_9 : decode cX1_isNamed 9 = .ok (.if_icmp .ne 27, 3) := dk_160 0 27 (dk_at dksX1_isNamed_0 9 rfl rfl)
theorem dX1_isNamed_12 : decode cX1_isNamed 12 = .ok (.aload_n 0, 1) := dk_42 (dk_at dksX1_isNamed_0 12 rfl rfl)
theorem dX1_isNamed_13 : decode cX1_isNamed 13 = .ok (.getfield 20, 3) := dk_180 0 20 (dk_at dksX1_isNamed_0 13 rfl rfl)
theorem dX1_isNamed_16 : decode cX1_isNamed 16 = .ok (.aload_n 1, 1) := dk_43 (dk_at dksX1_isNamed_0 16 rfl rfl)
theorem dX1_isNamed_17 : decode cX1_isNamed 17 = .ok (.invokestatic 26, 3) := dk_184 0 26 (dk_at dksX1_isNamed_0 17 rfl rfl)
theorem dX1_isNamed_20 : decode cX1_isNamed 20 = .ok (.iconst (-1), 1) := dk_2 (dk_at dksX1_isNamed_0 20 rfl rfl)
theorem dX1_isNamed_21 : decode cX1_isNamed 21 = .ok (.if_icmp .ne 15, 3) := dk_160 0 15 (dk_at dksX1_isNamed_0 21 rfl rfl)
theorem dX1_isNamed_24 : decode cX1_isNamed 24 = .ok (.aload_n 0, 1) := dk_42 (dk_at dksX1_isNamed_1 0 rfl rfl)
theorem dX1_isNamed_25 : decode cX1_isNamed 25 = .ok (.getfield 23, 3) := dk_180 0 23 (dk_at dksX1_isNamed_1 1 rfl rfl)
theorem dX1_isNamed_28 : decode cX1_isNamed 28 = .ok (.aload_n 1, 1) := dk_43 (dk_at dksX1_isNamed_1 4 rfl rfl)
theorem dX1_isNamed_29 : decode cX1_isNamed 29 = .ok (.invokestatic 26, 3) := dk_184 0 26 (dk_at dksX1_isNamed_1 5 rfl rfl)
theorem dX1_isNamed_32 : decode cX1_isNamed 32 = .ok (.iconst (-1), 1) := dk_2 (dk_at dksX1_isNamed_1 8 rfl rfl)
theorem dX1_isNamed_33 : decode cX1_isNamed 33 = .ok (.if_icmp .eq 7, 3) := dk_159 0 7 (dk_at dksX1_isNamed_1 9 rfl rfl)
theorem dX1_isNamed_36 : decode cX1_isNamed 36 = .ok (.iconst 1, 1) := dk_4 (dk_at dksX1_isNamed_1 12 rfl rfl)
theorem dX1_isNamed_37 : decode cX1_isNamed 37 = .ok (.goto 4, 3) := dk_167 0 4 (dk_at dksX1_isNamed_1 13 rfl rfl)
theorem dX1_isNamed_40 : decode cX1_isNamed 40 = .ok (.iconst 0, 1) := dk_3 (dk_at dksX1_isNamed_1 16 rfl rfl)
theorem dX1_isNamed_41 : decode cX1_isNamed 41 = .ok (.ireturn, 1) := dk_172 (dk_at dksX1_isNamed_1 17 rfl rfl)
theorem q159 : (Jvm.Cond.initialized "MendedThings$Island") ∈ lw_all := lw_g (lw_at lw_m1 2 rfl) rfl
theorem q208 : (Jvm.Cond.instantiable "MendedThings$Island" (10 : Nat)) ∈ lw_all := lw_g (lw_at lw_m1 51 rfl) rfl
theorem q210 : (Jvm.Cond.instanceMethod ({ cls := "MendedThings$Island", name := "<init>", desc := "()V" } : Jvm.MethodName)) ∈ lw_all := lw_g (lw_at lw_m1 53 rfl) rfl
theorem q211 : (Jvm.Cond.code ({ cls := "MendedThings$Island", name := "<init>", desc := "()V" } : Jvm.MethodName) prog_8_method_1_code (1 : Nat) (Option.none : Option Jvm.ClassFile.FieldType)) ∈ lw_all := lw_g (lw_at lw_m1 54 rfl) rfl
theorem q212 : (Jvm.Cond.methodLink "MendedThings$Island" (3 : Nat) ({ cls := "java/lang/Object", name := "<init>", desc := "()V" } : Jvm.MethodName)) ∈ lw_all := lw_g (lw_at lw_m1 55 rfl) rfl
theorem q213 : (Jvm.Cond.classLink "MendedThings$Island" (9 : Nat) "java/util/ArrayList") ∈ lw_all := lw_g (lw_at lw_m1 56 rfl) rfl
theorem q215 : (Jvm.Cond.methodLink "MendedThings$Island" (11 : Nat) ({ cls := "java/util/ArrayList", name := "<init>", desc := "(I)V" } : Jvm.MethodName)) ∈ lw_all := lw_g (lw_at lw_m1 58 rfl) rfl
theorem q245 : (Jvm.Cond.fieldLink "MendedThings$Island" (14 : Nat) "MendedThings$Island" "things" "Ljava/util/List;") ∈ lw_all := lw_g (lw_at lw_m1 88 rfl) rfl
theorem q248 : (Jvm.Cond.fieldLink "MendedThings$Island" (20 : Nat) "MendedThings$Island" "menders" "Ljava/util/List;") ∈ lw_all := lw_g (lw_at lw_m1 91 rfl) rfl
theorem q251 : (Jvm.Cond.fieldLink "MendedThings$Island" (23 : Nat) "MendedThings$Island" "trials" "Ljava/util/List;") ∈ lw_all := lw_g (lw_at lw_m1 94 rfl) rfl
theorem q264 : (Jvm.Cond.lays "MendedThings$Island" "MendedThings$Island" "statements" "I") ∈ lw_all := lw_g (lw_at lw_m1 107 rfl) rfl
theorem q265 : (Jvm.Cond.soleField "MendedThings$Island" "statements") ∈ lw_all := lw_g (lw_at lw_m1 108 rfl) rfl
theorem q266 : (Jvm.Cond.lays "MendedThings$Island" "MendedThings$Island" "cat" "I") ∈ lw_all := lw_g (lw_at lw_m1 109 rfl) rfl
theorem q267 : (Jvm.Cond.soleField "MendedThings$Island" "cat") ∈ lw_all := lw_g (lw_at lw_m1 110 rfl) rfl
theorem q268 : (Jvm.Cond.laysFinal "MendedThings$Island" "MendedThings$Island" "things" "Ljava/util/List;") ∈ lw_all := lw_g (lw_at lw_m1 111 rfl) rfl
theorem q269 : (Jvm.Cond.soleField "MendedThings$Island" "things") ∈ lw_all := lw_g (lw_at lw_m1 112 rfl) rfl
theorem q270 : (Jvm.Cond.laysFinal "MendedThings$Island" "MendedThings$Island" "menders" "Ljava/util/List;") ∈ lw_all := lw_g (lw_at lw_m1 113 rfl) rfl
theorem q271 : (Jvm.Cond.soleField "MendedThings$Island" "menders") ∈ lw_all := lw_g (lw_at lw_m1 114 rfl) rfl
theorem q272 : (Jvm.Cond.laysFinal "MendedThings$Island" "MendedThings$Island" "trials" "Ljava/util/List;") ∈ lw_all := lw_g (lw_at lw_m1 115 rfl) rfl
theorem q273 : (Jvm.Cond.soleField "MendedThings$Island" "trials") ∈ lw_all := lw_g (lw_at lw_m1 116 rfl) rfl
theorem q274 : (Jvm.Cond.lays "MendedThings$Island" "MendedThings$Island" "stands" "LMendedThings$Test;") ∈ lw_all := lw_g (lw_at lw_m1 117 rfl) rfl
theorem q275 : (Jvm.Cond.soleField "MendedThings$Island" "stands") ∈ lw_all := lw_g (lw_at lw_m1 118 rfl) rfl
theorem q276 : (Jvm.Cond.lays "MendedThings$Island" "MendedThings$Island" "falls" "LMendedThings$Test;") ∈ lw_all := lw_g (lw_at lw_m1 119 rfl) rfl
theorem q277 : (Jvm.Cond.soleField "MendedThings$Island" "falls") ∈ lw_all := lw_g (lw_at lw_m1 120 rfl) rfl
theorem q278 : (Jvm.Cond.lays "MendedThings$Island" "MendedThings$Island" "takes" "LMendedThings$Value;") ∈ lw_all := lw_g (lw_at lw_m1 121 rfl) rfl
theorem q279 : (Jvm.Cond.soleField "MendedThings$Island" "takes") ∈ lw_all := lw_g (lw_at lw_m1 122 rfl) rfl
theorem q280 : (Jvm.Cond.lays "MendedThings$Island" "MendedThings$Island" "fine" "LMendedThings$Value;") ∈ lw_all := lw_g (lw_at lw_m1 123 rfl) rfl
theorem q281 : (Jvm.Cond.soleField "MendedThings$Island" "fine") ∈ lw_all := lw_g (lw_at lw_m1 124 rfl) rfl
theorem q282 : (Jvm.Cond.lays "MendedThings$Island" "MendedThings$Island" "first" "LMendedThings$Value;") ∈ lw_all := lw_g (lw_at lw_m1 125 rfl) rfl
theorem q283 : (Jvm.Cond.soleField "MendedThings$Island" "first") ∈ lw_all := lw_g (lw_at lw_m1 126 rfl) rfl
theorem q284 : (Jvm.Cond.superclass "MendedThings$Island" "java/lang/Object") ∈ lw_all := lw_g (lw_at lw_m1 127 rfl) rfl
theorem q772 : (Jvm.Cond.instanceMethod ({ cls := "MendedThings$Island", name := "isNamed", desc := "(Ljava/lang/String;)Z" } : Jvm.MethodName)) ∈ lw_all := lw_g (lw_at lw_m3 135 rfl) rfl
theorem q773 : (Jvm.Cond.selects "MendedThings$Island" ({ cls := "MendedThings$Island", name := "isNamed", desc := "(Ljava/lang/String;)Z" } : Jvm.MethodName) ({ cls := "MendedThings$Island", name := "isNamed", desc := "(Ljava/lang/String;)Z" } : Jvm.MethodName)) ∈ lw_all := lw_g (lw_at lw_m3 136 rfl) rfl
theorem q774 : (Jvm.Cond.code ({ cls := "MendedThings$Island", name := "isNamed", desc := "(Ljava/lang/String;)Z" } : Jvm.MethodName) prog_8_method_2_code (2 : Nat) (Option.some Jvm.ClassFile.FieldType.boolean)) ∈ lw_all := lw_g (lw_at lw_m3 137 rfl) rfl
theorem q775 : (Jvm.Cond.methodLink "MendedThings$Island" (26 : Nat) ({ cls := "MendedThings$Named", name := "find", desc := "(Ljava/util/List;Ljava/lang/String;)I" } : Jvm.MethodName)) ∈ lw_all := lw_g (lw_at lw_m3 138 rfl) rfl
theorem q893 : (Jvm.Cond.selects "MendedThings$Island" ({ cls := "java/lang/Object", name := "getClass", desc := "()Ljava/lang/Class;" } : Jvm.MethodName) ({ cls := "java/lang/Object", name := "getClass", desc := "()Ljava/lang/Class;" } : Jvm.MethodName)) ∈ lw_all := lw_g (lw_at lw_m4 16 rfl) rfl
theorem q2588 : (Jvm.Cond.castable "MendedThings$Island" "java/lang/Object") ∈ lw_tbl := lw_at lw_m11 31 rfl
theorem in_X1 : ∀ w ∈ wsX10, w ∈ lw_all := lw_in wsX10 [264, 266, 268, 270, 272, 274, 276, 278, 280, 282] (by decide +kernel) (by decide +kernel)
/-! MendedThings$Trial -/
set_option maxRecDepth 100000
def RX10 : String := "MendedThings$Trial"
def TX10 : u_T := fun k => match k with
  | 0 => ("MendedThings$Named", "name", "Ljava/lang/String;", true)
  | _ => ("MendedThings$Trial", "test", "LMendedThings$Test;", true)
def tyX10 : Nat → FieldType := fun k => match k with
  | 0 => .object "java/lang/String"
  | _ => .object "MendedThings$Test"
abbrev wsX100 : List Cond := u_ws RX10 TX10 2
theorem nmX10 : ∀ a, a < 2 → ∀ b, b < 2 → a ≠ b → (TX10 a).2.1 ≠ (TX10 b).2.1 := by decide +kernel
theorem tyX10_ok : ∀ k, k < 2 → parseFieldDescriptor (TX10 k).2.2.1 = some (tyX10 k) := by decide +kernel
abbrev cX10_init : ByteArray := prog_21_method_1_code
def yX10_init : MethodName := ⟨RX10, "<init>", "(Ljava/lang/String;LMendedThings$Test;)V"⟩
def dkwX10_init_0 : List UInt8 := [42, 43, 183, 0, 1, 42, 44, 181, 0, 7, 177]
abbrev dktX10_init_0 : List UInt8 := dkwX10_init_0 ++ []
theorem dksX10_init_0 : cX10_init.data.toList.drop 0 = dktX10_init_0 := by decide +kernel
theorem dX10_init_0 : decode cX10_init 0 = .ok (.aload_n 0, 1) := dk_42 (dk_at dksX10_init_0 0 rfl rfl)
theorem dX10_init_1 : decode cX10_init 1 = .ok (.aload_n 1, 1) := dk_43 (dk_at dksX10_init_0 1 rfl rfl)
theorem dX10_init_2 : decode cX10_init 2 = .ok (.invokespecial 1, 3) := dk_183 0 1 (dk_at dksX10_init_0 2 rfl rfl)
theorem dX10_init_5 : decode cX10_init 5 = .ok (.aload_n 0, 1) := dk_42 (dk_at dksX10_init_0 5 rfl rfl)
theorem dX10_init_6 : decode cX10_init 6 = .ok (.aload_n 2, 1) := dk_44 (dk_at dksX10_init_0 6 rfl rfl)
theorem dX10_init_7 : decode cX10_init 7 = .ok (.putfield 7, 3) := dk_181 0 7 (dk_at dksX10_init_0 7 rfl rfl)
theorem dX10_init_10 : decode cX10_init 10 = .ok (.return_, 1) := dk_177 (dk_at dksX10_init_0 10 rfl rfl)
theorem q183 : (Jvm.Cond.initialized "MendedThings$Trial") ∈ lw_all := lw_g (lw_at lw_m1 26 rfl) rfl
theorem q904 : (Jvm.Cond.selects "MendedThings$Trial" ({ cls := "java/lang/Object", name := "getClass", desc := "()Ljava/lang/Class;" } : Jvm.MethodName) ({ cls := "java/lang/Object", name := "getClass", desc := "()Ljava/lang/Class;" } : Jvm.MethodName)) ∈ lw_all := lw_g (lw_at lw_m4 27 rfl) rfl
theorem q945 : (Jvm.Cond.instantiable "MendedThings$Trial" (2 : Nat)) ∈ lw_all := lw_g (lw_at lw_m4 68 rfl) rfl
theorem q1214 : (Jvm.Cond.instanceMethod ({ cls := "MendedThings$Trial", name := "<init>", desc := "(Ljava/lang/String;LMendedThings$Test;)V" } : Jvm.MethodName)) ∈ lw_all := lw_g (lw_at lw_m5 97 rfl) rfl
theorem q1215 : (Jvm.Cond.code ({ cls := "MendedThings$Trial", name := "<init>", desc := "(Ljava/lang/String;LMendedThings$Test;)V" } : Jvm.MethodName) prog_21_method_1_code (3 : Nat) (Option.none : Option Jvm.ClassFile.FieldType)) ∈ lw_all := lw_g (lw_at lw_m5 98 rfl) rfl
theorem q1216 : (Jvm.Cond.methodLink "MendedThings$Trial" (1 : Nat) ({ cls := "MendedThings$Named", name := "<init>", desc := "(Ljava/lang/String;)V" } : Jvm.MethodName)) ∈ lw_all := lw_g (lw_at lw_m5 99 rfl) rfl
theorem q1217 : (Jvm.Cond.fieldLink "MendedThings$Trial" (7 : Nat) "MendedThings$Trial" "test" "LMendedThings$Test;") ∈ lw_all := lw_g (lw_at lw_m5 100 rfl) rfl
theorem q1219 : (Jvm.Cond.laysFinal "MendedThings$Trial" "MendedThings$Trial" "test" "LMendedThings$Test;") ∈ lw_all := lw_g (lw_at lw_m5 102 rfl) rfl
theorem q1220 : (Jvm.Cond.soleField "MendedThings$Trial" "test") ∈ lw_all := lw_g (lw_at lw_m5 103 rfl) rfl
theorem q1221 : (Jvm.Cond.laysFinal "MendedThings$Trial" "MendedThings$Named" "name" "Ljava/lang/String;") ∈ lw_all := lw_g (lw_at lw_m5 104 rfl) rfl
theorem q1222 : (Jvm.Cond.superclass "MendedThings$Trial" "MendedThings$Named") ∈ lw_all := lw_g (lw_at lw_m5 105 rfl) rfl
theorem q1405 : (Jvm.Cond.selects "MendedThings$Trial" ({ cls := "MendedThings$Named", name := "letter", desc := "(I)I" } : Jvm.MethodName) ({ cls := "MendedThings$Named", name := "letter", desc := "(I)I" } : Jvm.MethodName)) ∈ lw_all := lw_g (lw_at lw_m6 48 rfl) rfl
theorem q2575 : (Jvm.Cond.castable "MendedThings$Trial" "MendedThings$Named") ∈ lw_tbl := lw_at lw_m11 18 rfl
theorem q2597 : (Jvm.Cond.castable "MendedThings$Trial" "java/lang/Object") ∈ lw_tbl := lw_at lw_m11 40 rfl
theorem in_X10 : ∀ w ∈ wsX100, w ∈ lw_all := lw_in wsX100 [1221, 1219] (by decide +kernel) (by decide +kernel)
/-! MendedThings$Test -/
set_option maxRecDepth 100000
def RX11 : String := "MendedThings$Test"
abbrev cX11_init : ByteArray := prog_18_method_1_code
def yX11_init : MethodName := ⟨RX11, "<init>", "()V"⟩
theorem dX11_init_0 : decode cX11_init 0 = .ok (.aload_n 0, 1) := by decide +kernel
theorem dX11_init_1 : decode cX11_init 1 = .ok (.invokespecial 1, 3) := by decide +kernel
theorem dX11_init_4 : decode cX11_init 4 = .ok (.return_, 1) := by decide +kernel
theorem q184 : (Jvm.Cond.initialized "MendedThings$Test") ∈ lw_all := lw_g (lw_at lw_m1 27 rfl) rfl
theorem q956 : (Jvm.Cond.instanceMethod ({ cls := "MendedThings$Test", name := "<init>", desc := "()V" } : Jvm.MethodName)) ∈ lw_all := lw_g (lw_at lw_m4 79 rfl) rfl
theorem q957 : (Jvm.Cond.code ({ cls := "MendedThings$Test", name := "<init>", desc := "()V" } : Jvm.MethodName) prog_18_method_1_code (1 : Nat) (Option.none : Option Jvm.ClassFile.FieldType)) ∈ lw_all := lw_g (lw_at lw_m4 80 rfl) rfl
theorem q958 : (Jvm.Cond.methodLink "MendedThings$Test" (1 : Nat) ({ cls := "java/lang/Object", name := "<init>", desc := "()V" } : Jvm.MethodName)) ∈ lw_all := lw_g (lw_at lw_m4 81 rfl) rfl
theorem q1298 : (Jvm.Cond.declares ({ cls := "MendedThings$Test", name := "holds", desc := "(LMendedThings$Moment;)Z" } : Jvm.MethodName)) ∈ lw_tbl := lw_at lw_m5 181 rfl
theorem q1299 : (Jvm.Cond.sameMethod "MendedThings$Test" "MendedThings$Test" "holds" "(LMendedThings$Moment;)Z") ∈ lw_all := lw_g (lw_at lw_m5 182 rfl) rfl
/-! MendedThings$Facts -/
set_option maxRecDepth 100000
def RX12 : String := "MendedThings$Facts"
def TX12 : u_T := fun k => match k with
  | 0 => ("MendedThings$Facts", "tests", "Ljava/util/List;", true)
  | _ => ("MendedThings$Facts", "all", "Z", true)
def tyX12 : Nat → FieldType := fun k => match k with
  | 0 => .object "java/util/List"
  | _ => .boolean
abbrev wsX120 : List Cond := u_ws RX12 TX12 2
theorem nmX12 : ∀ a, a < 2 → ∀ b, b < 2 → a ≠ b → (TX12 a).2.1 ≠ (TX12 b).2.1 := by decide +kernel
theorem tyX12_ok : ∀ k, k < 2 → parseFieldDescriptor (TX12 k).2.2.1 = some (tyX12 k) := by decide +kernel
abbrev cX12_init : ByteArray := prog_5_method_1_code
def yX12_init : MethodName := ⟨RX12, "<init>", "(Z)V"⟩
def dkwX12_init_0 : List UInt8 := [42, 183, 0, 1, 42, 187, 0, 7, 89, 5, 183, 0, 9, 181, 0, 12, 42, 27, 181, 0, 18, 177]
abbrev dktX12_init_0 : List UInt8 := dkwX12_init_0 ++ []
theorem dksX12_init_0 : cX12_init.data.toList.drop 0 = dktX12_init_0 := by decide +kernel
theorem dX12_init_0 : decode cX12_init 0 = .ok (.aload_n 0, 1) := dk_42 (dk_at dksX12_init_0 0 rfl rfl)
theorem dX12_init_1 : decode cX12_init 1 = .ok (.invokespecial 1, 3) := dk_183 0 1 (dk_at dksX12_init_0 1 rfl rfl)
theorem dX12_init_4 : decode cX12_init 4 = .ok (.aload_n 0, 1) := dk_42 (dk_at dksX12_init_0 4 rfl rfl)
theorem dX12_init_5 : decode cX12_init 5 = .ok (.new 7, 3) := dk_187 0 7 (dk_at dksX12_init_0 5 rfl rfl)
theorem dX12_init_8 : decode cX12_init 8 = .ok (.dup, 1) := dk_89 (dk_at dksX12_init_0 8 rfl rfl)
theorem dX12_init_9 : decode cX12_init 9 = .ok (.iconst 2, 1) := dk_5 (dk_at dksX12_init_0 9 rfl rfl)
theorem dX12_init_10 : decode cX12_init 10 = .ok (.invokespecial 9, 3) := dk_183 0 9 (dk_at dksX12_init_0 10 rfl rfl)
theorem dX12_init_13 : decode cX12_init 13 = .ok (.putfield 12, 3) := dk_181 0 12 (dk_at dksX12_init_0 13 rfl rfl)
theorem dX12_init_16 : decode cX12_init 16 = .ok (.aload_n 0, 1) := dk_42 (dk_at dksX12_init_0 16 rfl rfl)
theorem dX12_init_17 : decode cX12_init 17 = .ok (.iload_n 1, 1) := dk_27 (dk_at dksX12_init_0 17 rfl rfl)
theorem dX12_init_18 : decode cX12_init 18 = .ok (.putfield 18, 3) := dk_181 0 18 (dk_at dksX12_init_0 18 rfl rfl)
theorem dX12_init_21 : decode cX12_init 21 = .ok (.return_, 1) := dk_177 (dk_at dksX12_init_0 21 rfl rfl)
abbrev cX12_holds : ByteArray := prog_5_method_2_code
def yX12_holds : MethodName := ⟨RX12, "holds", "(LMendedThings$Moment;)Z"⟩
def dkwX12_holds_2 : List UInt8 := [154, 0, 7, 4, 167, 0, 4, 3, 172, 132, 2, 1, 167, 255, 203, 42, 180, 0, 18, 172]
abbrev dktX12_holds_2 : List UInt8 := dkwX12_holds_2 ++ []
def dkwX12_holds_1 : List UInt8 := [185, 0, 28, 2, 0, 192, 0, 2, 43, 182, 0, 32, 42, 180, 0, 18, 159, 0, 16, 42, 180, 0, 18]
abbrev dktX12_holds_1 : List UInt8 := dkwX12_holds_1 ++ dktX12_holds_2
def dkwX12_holds_0 : List UInt8 := [3, 61, 28, 42, 180, 0, 12, 185, 0, 22, 1, 0, 162, 0, 46, 42, 180, 0, 12, 28]
abbrev dktX12_holds_0 : List UInt8 := dkwX12_holds_0 ++ dktX12_holds_1
theorem dksX12_holds_0 : cX12_holds.data.toList.drop 0 = dktX12_holds_0 := by decide +kernel
theorem dksX12_holds_1 : cX12_holds.data.toList.drop 20 = dktX12_holds_1 := dk_seg dksX12_holds_0 20 rfl rfl
theorem dksX12_holds_2 : cX12_holds.data.toList.drop 43 = dktX12_holds_2 := dk_seg dksX12_holds_1 23 rfl rfl
theorem dX12_holds_0 : decode cX12_holds 0 = .ok (.iconst 0, 1) := dk_3 (dk_at dksX12_holds_0 0 rfl rfl)
theorem dX12_holds_1 : decode cX12_holds 1 = .ok (.istore_n 2, 1) := dk_61 (dk_at dksX12_holds_0 1 rfl rfl)
theorem dX12_holds_2 : decode cX12_holds 2 = .ok (.iload_n 2, 1) := dk_28 (dk_at dksX12_holds_0 2 rfl rfl)
theorem dX12_holds_3 : decode cX12_holds 3 = .ok (.aload_n 0, 1) := dk_42 (dk_at dksX12_holds_0 3 rfl rfl)
theorem dX12_holds_4 : decode cX12_holds 4 = .ok (.getfield 12, 3) := dk_180 0 12 (dk_at dksX12_holds_0 4 rfl rfl)
theorem dX12_holds_7 : decode cX12_holds 7 = .ok (.invokeinterface 22 1, 5) := by decide +kernel
theorem dX12_holds_12 : decode cX12_holds 12 = .ok (.if_icmp .ge 46, 3) := dk_162 0 46 (dk_at dksX12_holds_0 12 rfl rfl)
theorem dX12_holds_15 : decode cX12_holds 15 = .ok (.aload_n 0, 1) := dk_42 (dk_at dksX12_holds_0 15 rfl rfl)
theorem dX12_holds_16 : decode cX12_holds 16 = .ok (.getfield 12, 3) := dk_180 0 12 (dk_at dksX12_holds_0 16 rfl rfl)
theorem dX12_holds_19 : decode cX12_holds 19 = .ok (.iload_n 2, 1) := dk_28 (dk_at dksX12_holds_0 19 rfl rfl)
theorem dX12_holds_20 : decode cX12_holds 20 = .ok (.invokeinterface 28 2, 5) := by decide +kernel
theorem dX12_holds_25 : decode cX12_holds 25 = .ok (.checkcast 2, 3) := dk_192 0 2 (dk_at dksX12_holds_1 5 rfl rfl)
theorem dX12_holds_28 : decode cX12_holds 28 = .ok (.aload_n 1, 1) := dk_43 (dk_at dksX12_holds_1 8 rfl rfl)
theorem dX12_holds_29 : decode cX12_holds 29 = .ok (.invokevirtual 32, 3) := dk_182 0 32 (dk_at dksX12_holds_1 9 rfl rfl)
theorem dX12_holds_32 : decode cX12_holds 32 = .ok (.aload_n 0, 1) := dk_42 (dk_at dksX12_holds_1 12 rfl rfl)
theorem dX12_holds_33 : decode cX12_holds 33 = .ok (.getfield 18, 3) := dk_180 0 18 (dk_at dksX12_holds_1 13 rfl rfl)
theorem dX12_holds_36 : decode cX12_holds 36 = .ok (.if_icmp .eq 16, 3) := dk_159 0 16 (dk_at dksX12_holds_1 16 rfl rfl)
theorem dX12_holds_39 : decode cX12_holds 39 = .ok (.aload_n 0, 1) := dk_42 (dk_at dksX12_holds_1 19 rfl rfl)
theorem dX12_holds_40 : decode cX12_holds 40 = .ok (.getfield 18, 3) := dk_180 0 18 (dk_at dksX12_holds_1 20 rfl rfl)
theorem dX12_holds_43 : decode cX12_holds 43 = .ok (.ifCond .ne 7, 3) := dk_154 0 7 (dk_at dksX12_holds_2 0 rfl rfl)
theorem dX12_holds_46 : decode cX12_holds 46 = .ok (.iconst 1, 1) := dk_4 (dk_at dksX12_holds_2 3 rfl rfl)
theorem dX12_holds_47 : decode cX12_holds 47 = .ok (.goto 4, 3) := dk_167 0 4 (dk_at dksX12_holds_2 4 rfl rfl)
theorem dX12_holds_50 : decode cX12_holds 50 = .ok (.iconst 0, 1) := dk_3 (dk_at dksX12_holds_2 7 rfl rfl)
theorem dX12_holds_51 : decode cX12_holds 51 = .ok (.ireturn, 1) := dk_172 (dk_at dksX12_holds_2 8 rfl rfl)
theorem dX12_holds_52 : decode cX12_holds 52 = .ok (.iinc 2 1, 3) := dk_132 2 1 (dk_at dksX12_holds_2 9 rfl rfl)
theorem dX12_holds_55 : decode cX12_holds 55 = .ok (.goto (-53), 3) := dk_167 255 203 (dk_at dksX12_holds_2 12 rfl rfl)
theorem dX12_holds_58 : decode cX12_holds 58 = .ok (.aload_n 0, 1) := dk_42 (dk_at dksX12_holds_2 15 rfl rfl)
theorem dX12_holds_59 : decode cX12_holds 59 = .ok (.getfield 18, 3) := dk_180 0 18 (dk_at dksX12_holds_2 16 rfl rfl)
theorem dX12_holds_62 : decode cX12_holds 62 = .ok (.ireturn, 1) := dk_172 (dk_at dksX12_holds_2 19 rfl rfl)
theorem q185 : (Jvm.Cond.initialized "MendedThings$Facts") ∈ lw_all := lw_g (lw_at lw_m1 28 rfl) rfl
theorem q890 : (Jvm.Cond.selects "MendedThings$Facts" ({ cls := "java/lang/Object", name := "getClass", desc := "()Ljava/lang/Class;" } : Jvm.MethodName) ({ cls := "java/lang/Object", name := "getClass", desc := "()Ljava/lang/Class;" } : Jvm.MethodName)) ∈ lw_all := lw_g (lw_at lw_m4 13 rfl) rfl
theorem q951 : (Jvm.Cond.instantiable "MendedThings$Facts" (2 : Nat)) ∈ lw_all := lw_g (lw_at lw_m4 74 rfl) rfl
theorem q953 : (Jvm.Cond.instanceMethod ({ cls := "MendedThings$Facts", name := "<init>", desc := "(Z)V" } : Jvm.MethodName)) ∈ lw_all := lw_g (lw_at lw_m4 76 rfl) rfl
theorem q954 : (Jvm.Cond.code ({ cls := "MendedThings$Facts", name := "<init>", desc := "(Z)V" } : Jvm.MethodName) prog_5_method_1_code (2 : Nat) (Option.none : Option Jvm.ClassFile.FieldType)) ∈ lw_all := lw_g (lw_at lw_m4 77 rfl) rfl
theorem q955 : (Jvm.Cond.methodLinkNest "MendedThings$Facts" (1 : Nat) ({ cls := "MendedThings$Test", name := "<init>", desc := "()V" } : Jvm.MethodName) "MendedThings") ∈ lw_tbl := lw_at lw_m4 78 rfl
theorem q959 : (Jvm.Cond.classLink "MendedThings$Facts" (7 : Nat) "java/util/ArrayList") ∈ lw_all := lw_g (lw_at lw_m4 82 rfl) rfl
theorem q960 : (Jvm.Cond.methodLink "MendedThings$Facts" (9 : Nat) ({ cls := "java/util/ArrayList", name := "<init>", desc := "(I)V" } : Jvm.MethodName)) ∈ lw_all := lw_g (lw_at lw_m4 83 rfl) rfl
theorem q961 : (Jvm.Cond.fieldLink "MendedThings$Facts" (12 : Nat) "MendedThings$Facts" "tests" "Ljava/util/List;") ∈ lw_all := lw_g (lw_at lw_m4 84 rfl) rfl
theorem q963 : (Jvm.Cond.fieldLink "MendedThings$Facts" (18 : Nat) "MendedThings$Facts" "all" "Z") ∈ lw_all := lw_g (lw_at lw_m4 86 rfl) rfl
theorem q964 : (Jvm.Cond.laysFinal "MendedThings$Facts" "MendedThings$Facts" "tests" "Ljava/util/List;") ∈ lw_all := lw_g (lw_at lw_m4 87 rfl) rfl
theorem q965 : (Jvm.Cond.soleField "MendedThings$Facts" "tests") ∈ lw_all := lw_g (lw_at lw_m4 88 rfl) rfl
theorem q966 : (Jvm.Cond.laysFinal "MendedThings$Facts" "MendedThings$Facts" "all" "Z") ∈ lw_all := lw_g (lw_at lw_m4 89 rfl) rfl
theorem q967 : (Jvm.Cond.soleField "MendedThings$Facts" "all") ∈ lw_all := lw_g (lw_at lw_m4 90 rfl) rfl
theorem q968 : (Jvm.Cond.superclass "MendedThings$Facts" "MendedThings$Test") ∈ lw_all := lw_g (lw_at lw_m4 91 rfl) rfl
theorem q1303 : (Jvm.Cond.selects "MendedThings$Facts" ({ cls := "MendedThings$Test", name := "holds", desc := "(LMendedThings$Moment;)Z" } : Jvm.MethodName) ({ cls := "MendedThings$Facts", name := "holds", desc := "(LMendedThings$Moment;)Z" } : Jvm.MethodName)) ∈ lw_all := lw_g (lw_at lw_m5 186 rfl) rfl
theorem q1304 : (Jvm.Cond.instanceMethod ({ cls := "MendedThings$Facts", name := "holds", desc := "(LMendedThings$Moment;)Z" } : Jvm.MethodName)) ∈ lw_all := lw_g (lw_at lw_m5 187 rfl) rfl
theorem q1305 : (Jvm.Cond.code ({ cls := "MendedThings$Facts", name := "holds", desc := "(LMendedThings$Moment;)Z" } : Jvm.MethodName) prog_5_method_2_code (3 : Nat) (Option.some Jvm.ClassFile.FieldType.boolean)) ∈ lw_all := lw_g (lw_at lw_m5 188 rfl) rfl
theorem q1306 : (Jvm.Cond.interfaceEntry "MendedThings$Facts" (22 : Nat)) ∈ lw_tbl := lw_at lw_m5 189 rfl
theorem q1307 : (Jvm.Cond.methodLink "MendedThings$Facts" (22 : Nat) ({ cls := "java/util/List", name := "size", desc := "()I" } : Jvm.MethodName)) ∈ lw_all := lw_g (lw_at lw_m5 190 rfl) rfl
theorem q1308 : (Jvm.Cond.interfaceEntry "MendedThings$Facts" (28 : Nat)) ∈ lw_tbl := lw_at lw_m5 191 rfl
theorem q1309 : (Jvm.Cond.methodLink "MendedThings$Facts" (28 : Nat) ({ cls := "java/util/List", name := "get", desc := "(I)Ljava/lang/Object;" } : Jvm.MethodName)) ∈ lw_all := lw_g (lw_at lw_m5 192 rfl) rfl
theorem q1310 : (Jvm.Cond.classLink "MendedThings$Facts" (2 : Nat) "MendedThings$Test") ∈ lw_all := lw_g (lw_at lw_m5 193 rfl) rfl
theorem q1311 : (Jvm.Cond.methodLink "MendedThings$Facts" (32 : Nat) ({ cls := "MendedThings$Test", name := "holds", desc := "(LMendedThings$Moment;)Z" } : Jvm.MethodName)) ∈ lw_all := lw_g (lw_at lw_m5 194 rfl) rfl
theorem q2577 : (Jvm.Cond.castable "MendedThings$Facts" "MendedThings$Test") ∈ lw_tbl := lw_at lw_m11 20 rfl
theorem q2598 : (Jvm.Cond.castable "MendedThings$Facts" "java/lang/Object") ∈ lw_tbl := lw_at lw_m11 41 rfl
theorem in_X12 : ∀ w ∈ wsX120, w ∈ lw_all := lw_in wsX120 [964, 966] (by decide +kernel) (by decide +kernel)
/-! MendedThings$Not -/
set_option maxRecDepth 100000
def RX13 : String := "MendedThings$Not"
def TX13 : u_T := fun k => match k with
  | _ => ("MendedThings$Not", "test", "LMendedThings$Test;", true)
def tyX13 : Nat → FieldType := fun k => match k with
  | _ => .object "MendedThings$Test"
abbrev wsX130 : List Cond := u_ws RX13 TX13 1
theorem nmX13 : ∀ a, a < 1 → ∀ b, b < 1 → a ≠ b → (TX13 a).2.1 ≠ (TX13 b).2.1 := by decide +kernel
theorem tyX13_ok : ∀ k, k < 1 → parseFieldDescriptor (TX13 k).2.2.1 = some (tyX13 k) := by decide +kernel
abbrev cX13_init : ByteArray := prog_13_method_1_code
def yX13_init : MethodName := ⟨RX13, "<init>", "(LMendedThings$Test;)V"⟩
def dkwX13_init_0 : List UInt8 := [42, 183, 0, 1, 42, 43, 181, 0, 7, 177]
abbrev dktX13_init_0 : List UInt8 := dkwX13_init_0 ++ []
theorem dksX13_init_0 : cX13_init.data.toList.drop 0 = dktX13_init_0 := by decide +kernel
theorem dX13_init_0 : decode cX13_init 0 = .ok (.aload_n 0, 1) := dk_42 (dk_at dksX13_init_0 0 rfl rfl)
theorem dX13_init_1 : decode cX13_init 1 = .ok (.invokespecial 1, 3) := dk_183 0 1 (dk_at dksX13_init_0 1 rfl rfl)
theorem dX13_init_4 : decode cX13_init 4 = .ok (.aload_n 0, 1) := dk_42 (dk_at dksX13_init_0 4 rfl rfl)
theorem dX13_init_5 : decode cX13_init 5 = .ok (.aload_n 1, 1) := dk_43 (dk_at dksX13_init_0 5 rfl rfl)
theorem dX13_init_6 : decode cX13_init 6 = .ok (.putfield 7, 3) := dk_181 0 7 (dk_at dksX13_init_0 6 rfl rfl)
theorem dX13_init_9 : decode cX13_init 9 = .ok (.return_, 1) := dk_177 (dk_at dksX13_init_0 9 rfl rfl)
abbrev cX13_holds : ByteArray := prog_13_method_2_code
def yX13_holds : MethodName := ⟨RX13, "holds", "(LMendedThings$Moment;)Z"⟩
def dkwX13_holds_0 : List UInt8 := [42, 180, 0, 7, 43, 182, 0, 13, 154, 0, 7, 4, 167, 0, 4, 3, 172]
abbrev dktX13_holds_0 : List UInt8 := dkwX13_holds_0 ++ []
theorem dksX13_holds_0 : cX13_holds.data.toList.drop 0 = dktX13_holds_0 := by decide +kernel
theorem dX13_holds_0 : decode cX13_holds 0 = .ok (.aload_n 0, 1) := dk_42 (dk_at dksX13_holds_0 0 rfl rfl)
theorem dX13_holds_1 : decode cX13_holds 1 = .ok (.getfield 7, 3) := dk_180 0 7 (dk_at dksX13_holds_0 1 rfl rfl)
theorem dX13_holds_4 : decode cX13_holds 4 = .ok (.aload_n 1, 1) := dk_43 (dk_at dksX13_holds_0 4 rfl rfl)
theorem dX13_holds_5 : decode cX13_holds 5 = .ok (.invokevirtual 13, 3) := dk_182 0 13 (dk_at dksX13_holds_0 5 rfl rfl)
theorem dX13_holds_8 : decode cX13_holds 8 = .ok (.ifCond .ne 7, 3) := dk_154 0 7 (dk_at dksX13_holds_0 8 rfl rfl)
theorem dX13_holds_11 : decode cX13_holds 11 = .ok (.iconst 1, 1) := dk_4 (dk_at dksX13_holds_0 11 rfl rfl)
theorem dX13_holds_12 : decode cX13_holds 12 = .ok (.goto 4, 3) := dk_167 0 4 (dk_at dksX13_holds_0 12 rfl rfl)
theorem dX13_holds_15 : decode cX13_holds 15 = .ok (.iconst 0, 1) := dk_3 (dk_at dksX13_holds_0 15 rfl rfl)
theorem dX13_holds_16 : decode cX13_holds 16 = .ok (.ireturn, 1) := dk_172 (dk_at dksX13_holds_0 16 rfl rfl)
theorem q186 : (Jvm.Cond.initialized "MendedThings$Not") ∈ lw_all := lw_g (lw_at lw_m1 29 rfl) rfl
theorem q897 : (Jvm.Cond.selects "MendedThings$Not" ({ cls := "java/lang/Object", name := "getClass", desc := "()Ljava/lang/Class;" } : Jvm.MethodName) ({ cls := "java/lang/Object", name := "getClass", desc := "()Ljava/lang/Class;" } : Jvm.MethodName)) ∈ lw_all := lw_g (lw_at lw_m4 20 rfl) rfl
theorem q991 : (Jvm.Cond.instantiable "MendedThings$Not" (1 : Nat)) ∈ lw_all := lw_g (lw_at lw_m4 114 rfl) rfl
theorem q993 : (Jvm.Cond.instanceMethod ({ cls := "MendedThings$Not", name := "<init>", desc := "(LMendedThings$Test;)V" } : Jvm.MethodName)) ∈ lw_all := lw_g (lw_at lw_m4 116 rfl) rfl
theorem q994 : (Jvm.Cond.code ({ cls := "MendedThings$Not", name := "<init>", desc := "(LMendedThings$Test;)V" } : Jvm.MethodName) prog_13_method_1_code (2 : Nat) (Option.none : Option Jvm.ClassFile.FieldType)) ∈ lw_all := lw_g (lw_at lw_m4 117 rfl) rfl
theorem q995 : (Jvm.Cond.methodLinkNest "MendedThings$Not" (1 : Nat) ({ cls := "MendedThings$Test", name := "<init>", desc := "()V" } : Jvm.MethodName) "MendedThings") ∈ lw_tbl := lw_at lw_m4 118 rfl
theorem q996 : (Jvm.Cond.fieldLink "MendedThings$Not" (7 : Nat) "MendedThings$Not" "test" "LMendedThings$Test;") ∈ lw_all := lw_g (lw_at lw_m4 119 rfl) rfl
theorem q997 : (Jvm.Cond.laysFinal "MendedThings$Not" "MendedThings$Not" "test" "LMendedThings$Test;") ∈ lw_all := lw_g (lw_at lw_m4 120 rfl) rfl
theorem q998 : (Jvm.Cond.soleField "MendedThings$Not" "test") ∈ lw_all := lw_g (lw_at lw_m4 121 rfl) rfl
theorem q999 : (Jvm.Cond.superclass "MendedThings$Not" "MendedThings$Test") ∈ lw_all := lw_g (lw_at lw_m4 122 rfl) rfl
theorem q1312 : (Jvm.Cond.instanceMethod ({ cls := "MendedThings$Not", name := "holds", desc := "(LMendedThings$Moment;)Z" } : Jvm.MethodName)) ∈ lw_all := lw_g (lw_at lw_m5 195 rfl) rfl
theorem q1313 : (Jvm.Cond.code ({ cls := "MendedThings$Not", name := "holds", desc := "(LMendedThings$Moment;)Z" } : Jvm.MethodName) prog_13_method_2_code (2 : Nat) (Option.some Jvm.ClassFile.FieldType.boolean)) ∈ lw_all := lw_g (lw_at lw_m5 196 rfl) rfl
theorem q1314 : (Jvm.Cond.methodLink "MendedThings$Not" (13 : Nat) ({ cls := "MendedThings$Test", name := "holds", desc := "(LMendedThings$Moment;)Z" } : Jvm.MethodName)) ∈ lw_all := lw_g (lw_at lw_m5 197 rfl) rfl
theorem q1382 : (Jvm.Cond.selects "MendedThings$Not" ({ cls := "MendedThings$Test", name := "holds", desc := "(LMendedThings$Moment;)Z" } : Jvm.MethodName) ({ cls := "MendedThings$Not", name := "holds", desc := "(LMendedThings$Moment;)Z" } : Jvm.MethodName)) ∈ lw_all := lw_g (lw_at lw_m6 25 rfl) rfl
theorem q2578 : (Jvm.Cond.castable "MendedThings$Not" "MendedThings$Test") ∈ lw_tbl := lw_at lw_m11 21 rfl
theorem q2599 : (Jvm.Cond.castable "MendedThings$Not" "java/lang/Object") ∈ lw_tbl := lw_at lw_m11 42 rfl
theorem in_X13 : ∀ w ∈ wsX130, w ∈ lw_all := lw_in wsX130 [997] (by decide +kernel) (by decide +kernel)
/-! MendedThings$All -/
set_option maxRecDepth 100000
def RX14 : String := "MendedThings$All"
abbrev cX14_init : ByteArray := prog_2_method_1_code
def yX14_init : MethodName := ⟨RX14, "<init>", "()V"⟩
theorem dX14_init_0 : decode cX14_init 0 = .ok (.aload_n 0, 1) := by decide +kernel
theorem dX14_init_1 : decode cX14_init 1 = .ok (.invokespecial 1, 3) := by decide +kernel
theorem dX14_init_4 : decode cX14_init 4 = .ok (.return_, 1) := by decide +kernel
abbrev cX14_holds : ByteArray := prog_2_method_2_code
def yX14_holds : MethodName := ⟨RX14, "holds", "(LMendedThings$Moment;)Z"⟩
theorem dX14_holds_0 : decode cX14_holds 0 = .ok (.iconst 1, 1) := by decide +kernel
theorem dX14_holds_1 : decode cX14_holds 1 = .ok (.ireturn, 1) := by decide +kernel
theorem q187 : (Jvm.Cond.initialized "MendedThings$All") ∈ lw_all := lw_g (lw_at lw_m1 30 rfl) rfl
theorem q887 : (Jvm.Cond.selects "MendedThings$All" ({ cls := "java/lang/Object", name := "getClass", desc := "()Ljava/lang/Class;" } : Jvm.MethodName) ({ cls := "java/lang/Object", name := "getClass", desc := "()Ljava/lang/Class;" } : Jvm.MethodName)) ∈ lw_all := lw_g (lw_at lw_m4 10 rfl) rfl
theorem q1002 : (Jvm.Cond.instantiable "MendedThings$All" (0 : Nat)) ∈ lw_all := lw_g (lw_at lw_m4 125 rfl) rfl
theorem q1004 : (Jvm.Cond.instanceMethod ({ cls := "MendedThings$All", name := "<init>", desc := "()V" } : Jvm.MethodName)) ∈ lw_all := lw_g (lw_at lw_m4 127 rfl) rfl
theorem q1005 : (Jvm.Cond.code ({ cls := "MendedThings$All", name := "<init>", desc := "()V" } : Jvm.MethodName) prog_2_method_1_code (1 : Nat) (Option.none : Option Jvm.ClassFile.FieldType)) ∈ lw_all := lw_g (lw_at lw_m4 128 rfl) rfl
theorem q1006 : (Jvm.Cond.methodLinkNest "MendedThings$All" (1 : Nat) ({ cls := "MendedThings$Test", name := "<init>", desc := "()V" } : Jvm.MethodName) "MendedThings") ∈ lw_tbl := lw_at lw_m4 129 rfl
theorem q1007 : (Jvm.Cond.superclass "MendedThings$All" "MendedThings$Test") ∈ lw_all := lw_g (lw_at lw_m4 130 rfl) rfl
theorem q1300 : (Jvm.Cond.selects "MendedThings$All" ({ cls := "MendedThings$Test", name := "holds", desc := "(LMendedThings$Moment;)Z" } : Jvm.MethodName) ({ cls := "MendedThings$All", name := "holds", desc := "(LMendedThings$Moment;)Z" } : Jvm.MethodName)) ∈ lw_all := lw_g (lw_at lw_m5 183 rfl) rfl
theorem q1301 : (Jvm.Cond.instanceMethod ({ cls := "MendedThings$All", name := "holds", desc := "(LMendedThings$Moment;)Z" } : Jvm.MethodName)) ∈ lw_all := lw_g (lw_at lw_m5 184 rfl) rfl
theorem q1302 : (Jvm.Cond.code ({ cls := "MendedThings$All", name := "holds", desc := "(LMendedThings$Moment;)Z" } : Jvm.MethodName) prog_2_method_2_code (2 : Nat) (Option.some Jvm.ClassFile.FieldType.boolean)) ∈ lw_all := lw_g (lw_at lw_m5 185 rfl) rfl
theorem q2576 : (Jvm.Cond.castable "MendedThings$All" "MendedThings$Test") ∈ lw_tbl := lw_at lw_m11 19 rfl
theorem q2600 : (Jvm.Cond.castable "MendedThings$All" "java/lang/Object") ∈ lw_tbl := lw_at lw_m11 43 rfl
/-! MendedThings$Value -/
set_option maxRecDepth 100000
def RX15 : String := "MendedThings$Value"
abbrev cX15_init : ByteArray := prog_22_method_1_code
def yX15_init : MethodName := ⟨RX15, "<init>", "()V"⟩
theorem dX15_init_0 : decode cX15_init 0 = .ok (.aload_n 0, 1) := by decide +kernel
theorem dX15_init_1 : decode cX15_init 1 = .ok (.invokespecial 1, 3) := by decide +kernel
theorem dX15_init_4 : decode cX15_init 4 = .ok (.return_, 1) := by decide +kernel
theorem q188 : (Jvm.Cond.initialized "MendedThings$Value") ∈ lw_all := lw_g (lw_at lw_m1 31 rfl) rfl
theorem q1018 : (Jvm.Cond.instanceMethod ({ cls := "MendedThings$Value", name := "<init>", desc := "()V" } : Jvm.MethodName)) ∈ lw_all := lw_g (lw_at lw_m4 141 rfl) rfl
theorem q1019 : (Jvm.Cond.code ({ cls := "MendedThings$Value", name := "<init>", desc := "()V" } : Jvm.MethodName) prog_22_method_1_code (1 : Nat) (Option.none : Option Jvm.ClassFile.FieldType)) ∈ lw_all := lw_g (lw_at lw_m4 142 rfl) rfl
theorem q1020 : (Jvm.Cond.methodLink "MendedThings$Value" (1 : Nat) ({ cls := "java/lang/Object", name := "<init>", desc := "()V" } : Jvm.MethodName)) ∈ lw_all := lw_g (lw_at lw_m4 143 rfl) rfl
theorem q1318 : (Jvm.Cond.declares ({ cls := "MendedThings$Value", name := "at", desc := "(LMendedThings$Moment;)J" } : Jvm.MethodName)) ∈ lw_tbl := lw_at lw_m5 201 rfl
theorem q1319 : (Jvm.Cond.sameMethod "MendedThings$Value" "MendedThings$Value" "at" "(LMendedThings$Moment;)J") ∈ lw_all := lw_g (lw_at lw_m5 202 rfl) rfl
/-! MendedThings$Chain -/
set_option maxRecDepth 100000
def RX16 : String := "MendedThings$Chain"
def TX16 : u_T := fun k => match k with
  | 0 => ("MendedThings$Chain", "values", "Ljava/util/List;", true)
  | _ => ("MendedThings$Chain", "signs", "Ljava/lang/StringBuilder;", true)
def tyX16 : Nat → FieldType := fun k => match k with
  | 0 => .object "java/util/List"
  | _ => .object "java/lang/StringBuilder"
abbrev wsX160 : List Cond := u_ws RX16 TX16 2
theorem nmX16 : ∀ a, a < 2 → ∀ b, b < 2 → a ≠ b → (TX16 a).2.1 ≠ (TX16 b).2.1 := by decide +kernel
theorem tyX16_ok : ∀ k, k < 2 → parseFieldDescriptor (TX16 k).2.2.1 = some (tyX16 k) := by decide +kernel
abbrev cX16_init : ByteArray := prog_4_method_1_code
def yX16_init : MethodName := ⟨RX16, "<init>", "()V"⟩
def dkwX16_init_1 : List UInt8 := [181, 0, 21, 177]
abbrev dktX16_init_1 : List UInt8 := dkwX16_init_1 ++ []
def dkwX16_init_0 : List UInt8 := [42, 183, 0, 1, 42, 187, 0, 7, 89, 5, 183, 0, 9, 181, 0, 12, 42, 187, 0, 18, 89, 183, 0, 20]
abbrev dktX16_init_0 : List UInt8 := dkwX16_init_0 ++ dktX16_init_1
theorem dksX16_init_0 : cX16_init.data.toList.drop 0 = dktX16_init_0 := by decide +kernel
theorem dksX16_init_1 : cX16_init.data.toList.drop 24 = dktX16_init_1 := dk_seg dksX16_init_0 24 rfl rfl
theorem dX16_init_0 : decode cX16_init 0 = .ok (.aload_n 0, 1) := dk_42 (dk_at dksX16_init_0 0 rfl rfl)
theorem dX16_init_1 : decode cX16_init 1 = .ok (.invokespecial 1, 3) := dk_183 0 1 (dk_at dksX16_init_0 1 rfl rfl)
theorem dX16_init_4 : decode cX16_init 4 = .ok (.aload_n 0, 1) := dk_42 (dk_at dksX16_init_0 4 rfl rfl)
theorem dX16_init_5 : decode cX16_init 5 = .ok (.new 7, 3) := dk_187 0 7 (dk_at dksX16_init_0 5 rfl rfl)
theorem dX16_init_8 : decode cX16_init 8 = .ok (.dup, 1) := dk_89 (dk_at dksX16_init_0 8 rfl rfl)
theorem dX16_init_9 : decode cX16_init 9 = .ok (.iconst 2, 1) := dk_5 (dk_at dksX16_init_0 9 rfl rfl)
theorem dX16_init_10 : decode cX16_init 10 = .ok (.invokespecial 9, 3) := dk_183 0 9 (dk_at dksX16_init_0 10 rfl rfl)
theorem dX16_init_13 : decode cX16_init 13 = .ok (.putfield 12, 3) := dk_181 0 12 (dk_at dksX16_init_0 13 rfl rfl)
theorem dX16_init_16 : decode cX16_init 16 = .ok (.aload_n 0, 1) := dk_42 (dk_at dksX16_init_0 16 rfl rfl)
theorem dX16_init_17 : decode cX16_init 17 = .ok (.new 18, 3) := dk_187 0 18 (dk_at dksX16_init_0 17 rfl rfl)
theorem dX16_init_20 : decode cX16_init 20 = .ok (.dup, 1) := dk_89 (dk_at dksX16_init_0 20 rfl rfl)
theorem dX16_init_21 : decode cX16_init 21 = .ok (.invokespecial 20, 3) := dk_183 0 20 (dk_at dksX16_init_0 21 rfl rfl)
theorem dX16_init_24 : decode cX16_init 24 = .ok (.putfield 21, 3) := dk_181 0 21 (dk_at dksX16_init_1 0 rfl rfl)
theorem dX16_init_27 : decode cX16_init 27 = .ok (.return_, 1) := dk_177 (dk_at dksX16_init_1 3 rfl rfl)
abbrev cX16_add : ByteArray := prog_4_method_2_code
def yX16_add : MethodName := ⟨RX16, "add", "(CLMendedThings$Value;)V"⟩
def dkwX16_add_0 : List UInt8 := [42, 180, 0, 21, 27, 182, 0, 25, 87, 42, 180, 0, 12, 44, 185, 0, 29, 2, 0, 87, 177]
abbrev dktX16_add_0 : List UInt8 := dkwX16_add_0 ++ []
theorem dksX16_add_0 : cX16_add.data.toList.drop 0 = dktX16_add_0 := by decide +kernel
theorem dX16_add_0 : decode cX16_add 0 = .ok (.aload_n 0, 1) := dk_42 (dk_at dksX16_add_0 0 rfl rfl)
theorem dX16_add_1 : decode cX16_add 1 = .ok (.getfield 21, 3) := dk_180 0 21 (dk_at dksX16_add_0 1 rfl rfl)
theorem dX16_add_4 : decode cX16_add 4 = .ok (.iload_n 1, 1) := dk_27 (dk_at dksX16_add_0 4 rfl rfl)
theorem dX16_add_5 : decode cX16_add 5 = .ok (.invokevirtual 25, 3) := dk_182 0 25 (dk_at dksX16_add_0 5 rfl rfl)
theorem dX16_add_8 : decode cX16_add 8 = .ok (.pop, 1) := dk_87 (dk_at dksX16_add_0 8 rfl rfl)
theorem dX16_add_9 : decode cX16_add 9 = .ok (.aload_n 0, 1) := dk_42 (dk_at dksX16_add_0 9 rfl rfl)
theorem dX16_add_10 : decode cX16_add 10 = .ok (.getfield 12, 3) := dk_180 0 12 (dk_at dksX16_add_0 10 rfl rfl)
theorem dX16_add_13 : decode cX16_add 13 = .ok (.aload_n 2, 1) := dk_44 (dk_at dksX16_add_0 13 rfl rfl)
theorem dX16_add_14 : decode cX16_add 14 = .ok (.invokeinterface 29 2, 5) := by decide +kernel
theorem dX16_add_19 : decode cX16_add 19 = .ok (.pop, 1) := dk_87 (dk_at dksX16_add_0 19 rfl rfl)
theorem dX16_add_20 : decode cX16_add 20 = .ok (.return_, 1) := dk_177 (dk_at dksX16_add_0 20 rfl rfl)
abbrev cX16_at : ByteArray := prog_4_method_3_code
def yX16_at : MethodName := ⟨RX16, "at", "(LMendedThings$Moment;)J"⟩
def dkwX16_at_3 : List UInt8 := [132, 4, 1, 167, 255, 204, 32, 173]
abbrev dktX16_at_3 : List UInt8 := dkwX16_at_3 ++ []
def dkwX16_at_2 : List UInt8 := [180, 0, 12, 21, 4, 185, 0, 35, 2, 0, 192, 0, 2, 43, 182, 0, 39, 184, 0, 51, 184, 0, 55, 65]
abbrev dktX16_at_2 : List UInt8 := dkwX16_at_2 ++ dktX16_at_3
def dkwX16_at_1 : List UInt8 := [180, 0, 12, 185, 0, 43, 1, 0, 162, 0, 44, 42, 180, 0, 21, 21, 4, 182, 0, 47, 32, 42]
abbrev dktX16_at_1 : List UInt8 := dkwX16_at_1 ++ dktX16_at_2
def dkwX16_at_0 : List UInt8 := [42, 180, 0, 12, 3, 185, 0, 35, 2, 0, 192, 0, 2, 43, 182, 0, 39, 65, 4, 54, 4, 21, 4, 42]
abbrev dktX16_at_0 : List UInt8 := dkwX16_at_0 ++ dktX16_at_1
theorem dksX16_at_0 : cX16_at.data.toList.drop 0 = dktX16_at_0 := by decide +kernel
theorem dksX16_at_1 : cX16_at.data.toList.drop 24 = dktX16_at_1 := dk_seg dksX16_at_0 24 rfl rfl
theorem dksX16_at_2 : cX16_at.data.toList.drop 46 = dktX16_at_2 := dk_seg dksX16_at_1 22 rfl rfl
theorem dksX16_at_3 : cX16_at.data.toList.drop 70 = dktX16_at_3 := dk_seg dksX16_at_2 24 rfl rfl
theorem dX16_at_0 : decode cX16_at 0 = .ok (.aload_n 0, 1) := dk_42 (dk_at dksX16_at_0 0 rfl rfl)
theorem dX16_at_1 : decode cX16_at 1 = .ok (.getfield 12, 3) := dk_180 0 12 (dk_at dksX16_at_0 1 rfl rfl)
theorem dX16_at_4 : decode cX16_at 4 = .ok (.iconst 0, 1) := dk_3 (dk_at dksX16_at_0 4 rfl rfl)
theorem dX16_at_5 : decode cX16_at 5 = .ok (.invokeinterface 35 2, 5) := by decide +kernel
theorem dX16_at_10 : decode cX16_at 10 = .ok (.checkcast 2, 3) := dk_192 0 2 (dk_at dksX16_at_0 10 rfl rfl)
theorem dX16_at_13 : decode cX16_at 13 = .ok (.aload_n 1, 1) := dk_43 (dk_at dksX16_at_0 13 rfl rfl)
theorem dX16_at_14 : decode cX16_at 14 = .ok (.invokevirtual 39, 3) := dk_182 0 39 (dk_at dksX16_at_0 14 rfl rfl)
theorem dX16_at_17 : decode cX16_at 17 = .ok (.lstore_n 2, 1) := dk_65 (dk_at dksX16_at_0 17 rfl rfl)
theorem dX16_at_18 : decode cX16_at 18 = .ok (.iconst 1, 1) := dk_4 (dk_at dksX16_at_0 18 rfl rfl)
theorem dX16_at_19 : decode cX16_at 19 = .ok (.istore 4, 2) := dk_54 4 (dk_at dksX16_at_0 19 rfl rfl)
theorem dX16_at_21 : decode cX16_at 21 = .ok (.iload 4, 2) := dk_21 4 (dk_at dksX16_at_0 21 rfl rfl)
theorem dX16_at_23 : decode cX16_at 23 = .ok (.aload_n 0, 1) := dk_42 (dk_at dksX16_at_0 23 rfl rfl)
theorem dX16_at_24 : decode cX16_at 24 = .ok (.getfield 12, 3) := dk_180 0 12 (dk_at dksX16_at_1 0 rfl rfl)
theorem dX16_at_27 : decode cX16_at 27 = .ok (.invokeinterface 43 1, 5) := by decide +kernel
theorem dX16_at_32 : decode cX16_at 32 = .ok (.if_icmp .ge 44, 3) := dk_162 0 44 (dk_at dksX16_at_1 8 rfl rfl)
theorem dX16_at_35 : decode cX16_at 35 = .ok (.aload_n 0, 1) := dk_42 (dk_at dksX16_at_1 11 rfl rfl)
theorem dX16_at_36 : decode cX16_at 36 = .ok (.getfield 21, 3) := dk_180 0 21 (dk_at dksX16_at_1 12 rfl rfl)
theorem dX16_at_39 : decode cX16_at 39 = .ok (.iload 4, 2) := dk_21 4 (dk_at dksX16_at_1 15 rfl rfl)
theorem dX16_at_41 : decode cX16_at 41 = .ok (.invokevirtual 47, 3) := dk_182 0 47 (dk_at dksX16_at_1 17 rfl rfl)
theorem dX16_at_44 : decode cX16_at 44 = .ok (.lload_n 2, 1) := dk_32 (dk_at dksX16_at_1 20 rfl rfl)
theorem dX16_at_45 : decode cX16_at 45 = .ok (.aload_n 0, 1) := dk_42 (dk_at dksX16_at_1 21 rfl rfl)
theorem dX16_at_46 : decode cX16_at 46 = .ok (.getfield 12, 3) := dk_180 0 12 (dk_at dksX16_at_2 0 rfl rfl)
theorem dX16_at_49 : decode cX16_at 49 = .ok (.iload 4, 2) := dk_21 4 (dk_at dksX16_at_2 3 rfl rfl)
theorem dX16_at_51 : decode cX16_at 51 = .ok (.invokeinterface 35 2, 5) := by decide +kernel
theorem dX16_at_56 : decode cX16_at 56 = .ok (.checkcast 2, 3) := dk_192 0 2 (dk_at dksX16_at_2 10 rfl rfl)
theorem dX16_at_59 : decode cX16_at 59 = .ok (.aload_n 1, 1) := dk_43 (dk_at dksX16_at_2 13 rfl rfl)
theorem dX16_at_60 : decode cX16_at 60 = .ok (.invokevirtual 39, 3) := dk_182 0 39 (dk_at dksX16_at_2 14 rfl rfl)
theorem dX16_at_63 : decode cX16_at 63 = .ok (.invokestatic 51, 3) := dk_184 0 51 (dk_at dksX16_at_2 17 rfl rfl)
theorem dX16_at_66 : decode cX16_at 66 = .ok (.invokestatic 55, 3) := dk_184 0 55 (dk_at dksX16_at_2 20 rfl rfl)
theorem dX16_at_69 : decode cX16_at 69 = .ok (.lstore_n 2, 1) := dk_65 (dk_at dksX16_at_2 23 rfl rfl)
theorem dX16_at_70 : decode cX16_at 70 = .ok (.iinc 4 1, 3) := dk_132 4 1 (dk_at dksX16_at_3 0 rfl rfl)
theorem dX16_at_73 : decode cX16_at 73 = .ok (.goto (-52), 3) := dk_167 255 204 (dk_at dksX16_at_3 3 rfl rfl)
theorem dX16_at_76 : decode cX16_at 76 = .ok (.lload_n 2, 1) := dk_32 (dk_at dksX16_at_3 6 rfl rfl)
theorem dX16_at_77 : decode cX16_at 77 = .ok (.lreturn, 1) := dk_173 (dk_at dksX16_at_3 7 rfl rfl)
abbrev cX16_two : ByteArray := prog_4_method_4_code
def yX16_two : MethodName := ⟨RX16, "two", "(CJJ)J"⟩
def dkwX16_two_3 : List UInt8 := [184, 0, 61, 173]
abbrev dktX16_two_3 : List UInt8 := dkwX16_two_3 ++ []
def dkwX16_two_2 : List UInt8 := [31, 33, 97, 173, 31, 33, 101, 173, 31, 33, 105, 173, 33, 9, 148, 154, 0, 7, 9, 167, 0, 8, 31, 33]
abbrev dktX16_two_2 : List UInt8 := dkwX16_two_2 ++ dktX16_two_3
def dkwX16_two_1 : List UInt8 := [170, 0, 0, 0, 0, 0, 43, 0, 0, 0, 42, 0, 0, 0, 45, 0, 0, 0, 39, 0, 0, 0, 31, 0, 0, 0, 43, 0, 0, 0, 35]
abbrev dktX16_two_1 : List UInt8 := dkwX16_two_1 ++ dktX16_two_2
def dkwX16_two_0 : List UInt8 := [26]
abbrev dktX16_two_0 : List UInt8 := dkwX16_two_0 ++ dktX16_two_1
theorem dksX16_two_0 : cX16_two.data.toList.drop 0 = dktX16_two_0 := by decide +kernel
theorem dksX16_two_1 : cX16_two.data.toList.drop 1 = dktX16_two_1 := dk_seg dksX16_two_0 1 rfl rfl
theorem dksX16_two_2 : cX16_two.data.toList.drop 32 = dktX16_two_2 := dk_seg dksX16_two_1 31 rfl rfl
theorem dksX16_two_3 : cX16_two.data.toList.drop 56 = dktX16_two_3 := dk_seg dksX16_two_2 24 rfl rfl
theorem dX16_two_0 : decode cX16_two 0 = .ok (.iload_n 0, 1) := dk_26 (dk_at dksX16_two_0 0 rfl rfl)
theorem dX16_two_1 : decode cX16_two 1 = .ok (.tableswitch 43 42 45 #[39, 31, 43, 35], 31) := by decide +kernel
theorem dX16_two_32 : decode cX16_two 32 = .ok (.lload_n 1, 1) := dk_31 (dk_at dksX16_two_2 0 rfl rfl)
theorem dX16_two_33 : decode cX16_two 33 = .ok (.lload_n 3, 1) := dk_33 (dk_at dksX16_two_2 1 rfl rfl)
theorem dX16_two_34 : decode cX16_two 34 = .ok (.ladd, 1) := dk_97 (dk_at dksX16_two_2 2 rfl rfl)
theorem dX16_two_35 : decode cX16_two 35 = .ok (.lreturn, 1) := dk_173 (dk_at dksX16_two_2 3 rfl rfl)
theorem dX16_two_36 : decode cX16_two 36 = .ok (.lload_n 1, 1) := dk_31 (dk_at dksX16_two_2 4 rfl rfl)
theorem dX16_two_37 : decode cX16_two 37 = .ok (.lload_n 3, 1) := dk_33 (dk_at dksX16_two_2 5 rfl rfl)
theorem dX16_two_38 : decode cX16_two 38 = .ok (.lsub, 1) := dk_101 (dk_at dksX16_two_2 6 rfl rfl)
theorem dX16_two_39 : decode cX16_two 39 = .ok (.lreturn, 1) := dk_173 (dk_at dksX16_two_2 7 rfl rfl)
theorem dX16_two_40 : decode cX16_two 40 = .ok (.lload_n 1, 1) := dk_31 (dk_at dksX16_two_2 8 rfl rfl)
theorem dX16_two_41 : decode cX16_two 41 = .ok (.lload_n 3, 1) := dk_33 (dk_at dksX16_two_2 9 rfl rfl)
theorem dX16_two_42 : decode cX16_two 42 = .ok (.lmul, 1) := dk_105 (dk_at dksX16_two_2 10 rfl rfl)
theorem dX16_two_43 : decode cX16_two 43 = .ok (.lreturn, 1) := dk_173 (dk_at dksX16_two_2 11 rfl rfl)
theorem dX16_two_44 : decode cX16_two 44 = .ok (.lload_n 3, 1) := dk_33 (dk_at dksX16_two_2 12 rfl rfl)
theorem dX16_two_45 : decode cX16_two 45 = .ok (.lconst 0, 1) := dk_9 (dk_at dksX16_two_2 13 rfl rfl)
theorem dX16_two_46 : decode cX16_two 46 = .ok (.lcmp, 1) := dk_148 (dk_at dksX16_two_2 14 rfl rfl)
theorem dX16_two_47 : decode cX16_two 47 = .ok (.ifCond .ne 7, 3) := dk_154 0 7 (dk_at dksX16_two_2 15 rfl rfl)
theorem dX16_two_50 : decode cX16_two 50 = .ok (.lconst 0, 1) := dk_9 (dk_at dksX16_two_2 18 rfl rfl)
theorem dX16_two_51 : decode cX16_two 51 = .ok (.goto 8, 3) := dk_167 0 8 (dk_at dksX16_two_2 19 rfl rfl)
theorem dX16_two_54 : decode cX16_two 54 = .ok (.lload_n 1, 1) := dk_31 (dk_at dksX16_two_2 22 rfl rfl)
theorem dX16_two_55 : decode cX16_two 55 = .ok (.lload_n 3, 1) := dk_33 (dk_at dksX16_two_2 23 rfl rfl)
theorem dX16_two_56 : decode cX16_two 56 = .ok (.invokestatic 61, 3) := dk_184 0 61 (dk_at dksX16_two_3 0 rfl rfl)
theorem dX16_two_59 : decode cX16_two 59 = .ok (.lreturn, 1) := dk_173 (dk_at dksX16_two_3 3 rfl rfl)
theorem q189 : (Jvm.Cond.initialized "MendedThings$Chain") ∈ lw_all := lw_g (lw_at lw_m1 32 rfl) rfl
theorem q889 : (Jvm.Cond.selects "MendedThings$Chain" ({ cls := "java/lang/Object", name := "getClass", desc := "()Ljava/lang/Class;" } : Jvm.MethodName) ({ cls := "java/lang/Object", name := "getClass", desc := "()Ljava/lang/Class;" } : Jvm.MethodName)) ∈ lw_all := lw_g (lw_at lw_m4 12 rfl) rfl
theorem q1013 : (Jvm.Cond.instantiable "MendedThings$Chain" (2 : Nat)) ∈ lw_all := lw_g (lw_at lw_m4 136 rfl) rfl
theorem q1015 : (Jvm.Cond.instanceMethod ({ cls := "MendedThings$Chain", name := "<init>", desc := "()V" } : Jvm.MethodName)) ∈ lw_all := lw_g (lw_at lw_m4 138 rfl) rfl
theorem q1016 : (Jvm.Cond.code ({ cls := "MendedThings$Chain", name := "<init>", desc := "()V" } : Jvm.MethodName) prog_4_method_1_code (1 : Nat) (Option.none : Option Jvm.ClassFile.FieldType)) ∈ lw_all := lw_g (lw_at lw_m4 139 rfl) rfl
theorem q1017 : (Jvm.Cond.methodLinkNest "MendedThings$Chain" (1 : Nat) ({ cls := "MendedThings$Value", name := "<init>", desc := "()V" } : Jvm.MethodName) "MendedThings") ∈ lw_tbl := lw_at lw_m4 140 rfl
theorem q1021 : (Jvm.Cond.classLink "MendedThings$Chain" (7 : Nat) "java/util/ArrayList") ∈ lw_all := lw_g (lw_at lw_m4 144 rfl) rfl
theorem q1022 : (Jvm.Cond.methodLink "MendedThings$Chain" (9 : Nat) ({ cls := "java/util/ArrayList", name := "<init>", desc := "(I)V" } : Jvm.MethodName)) ∈ lw_all := lw_g (lw_at lw_m4 145 rfl) rfl
theorem q1023 : (Jvm.Cond.classLink "MendedThings$Chain" (18 : Nat) "java/lang/StringBuilder") ∈ lw_all := lw_g (lw_at lw_m4 146 rfl) rfl
theorem q1025 : (Jvm.Cond.methodLink "MendedThings$Chain" (20 : Nat) ({ cls := "java/lang/StringBuilder", name := "<init>", desc := "()V" } : Jvm.MethodName)) ∈ lw_all := lw_g (lw_at lw_m4 148 rfl) rfl
theorem q1046 : (Jvm.Cond.fieldLink "MendedThings$Chain" (12 : Nat) "MendedThings$Chain" "values" "Ljava/util/List;") ∈ lw_all := lw_g (lw_at lw_m4 169 rfl) rfl
theorem q1047 : (Jvm.Cond.fieldLink "MendedThings$Chain" (21 : Nat) "MendedThings$Chain" "signs" "Ljava/lang/StringBuilder;") ∈ lw_all := lw_g (lw_at lw_m4 170 rfl) rfl
theorem q1048 : (Jvm.Cond.laysFinal "MendedThings$Chain" "MendedThings$Chain" "values" "Ljava/util/List;") ∈ lw_all := lw_g (lw_at lw_m4 171 rfl) rfl
theorem q1049 : (Jvm.Cond.soleField "MendedThings$Chain" "values") ∈ lw_all := lw_g (lw_at lw_m4 172 rfl) rfl
theorem q1050 : (Jvm.Cond.laysFinal "MendedThings$Chain" "MendedThings$Chain" "signs" "Ljava/lang/StringBuilder;") ∈ lw_all := lw_g (lw_at lw_m4 173 rfl) rfl
theorem q1051 : (Jvm.Cond.soleField "MendedThings$Chain" "signs") ∈ lw_all := lw_g (lw_at lw_m4 174 rfl) rfl
theorem q1052 : (Jvm.Cond.superclass "MendedThings$Chain" "MendedThings$Value") ∈ lw_all := lw_g (lw_at lw_m4 175 rfl) rfl
theorem q1131 : (Jvm.Cond.instanceMethod ({ cls := "MendedThings$Chain", name := "add", desc := "(CLMendedThings$Value;)V" } : Jvm.MethodName)) ∈ lw_all := lw_g (lw_at lw_m5 14 rfl) rfl
theorem q1132 : (Jvm.Cond.selects "MendedThings$Chain" ({ cls := "MendedThings$Chain", name := "add", desc := "(CLMendedThings$Value;)V" } : Jvm.MethodName) ({ cls := "MendedThings$Chain", name := "add", desc := "(CLMendedThings$Value;)V" } : Jvm.MethodName)) ∈ lw_all := lw_g (lw_at lw_m5 15 rfl) rfl
theorem q1133 : (Jvm.Cond.code ({ cls := "MendedThings$Chain", name := "add", desc := "(CLMendedThings$Value;)V" } : Jvm.MethodName) prog_4_method_2_code (3 : Nat) (Option.none : Option Jvm.ClassFile.FieldType)) ∈ lw_all := lw_g (lw_at lw_m5 16 rfl) rfl
theorem q1134 : (Jvm.Cond.methodLink "MendedThings$Chain" (25 : Nat) ({ cls := "java/lang/StringBuilder", name := "append", desc := "(C)Ljava/lang/StringBuilder;" } : Jvm.MethodName)) ∈ lw_all := lw_g (lw_at lw_m5 17 rfl) rfl
theorem q1189 : (Jvm.Cond.interfaceEntry "MendedThings$Chain" (29 : Nat)) ∈ lw_tbl := lw_at lw_m5 72 rfl
theorem q1190 : (Jvm.Cond.methodLink "MendedThings$Chain" (29 : Nat) ({ cls := "java/util/List", name := "add", desc := "(Ljava/lang/Object;)Z" } : Jvm.MethodName)) ∈ lw_all := lw_g (lw_at lw_m5 73 rfl) rfl
theorem q1334 : (Jvm.Cond.selects "MendedThings$Chain" ({ cls := "MendedThings$Value", name := "at", desc := "(LMendedThings$Moment;)J" } : Jvm.MethodName) ({ cls := "MendedThings$Chain", name := "at", desc := "(LMendedThings$Moment;)J" } : Jvm.MethodName)) ∈ lw_all := lw_g (lw_at lw_m5 217 rfl) rfl
theorem q1335 : (Jvm.Cond.instanceMethod ({ cls := "MendedThings$Chain", name := "at", desc := "(LMendedThings$Moment;)J" } : Jvm.MethodName)) ∈ lw_all := lw_g (lw_at lw_m5 218 rfl) rfl
theorem q1336 : (Jvm.Cond.code ({ cls := "MendedThings$Chain", name := "at", desc := "(LMendedThings$Moment;)J" } : Jvm.MethodName) prog_4_method_3_code (5 : Nat) (Option.some Jvm.ClassFile.FieldType.long)) ∈ lw_all := lw_g (lw_at lw_m5 219 rfl) rfl
theorem q1337 : (Jvm.Cond.interfaceEntry "MendedThings$Chain" (35 : Nat)) ∈ lw_tbl := lw_at lw_m5 220 rfl
theorem q1338 : (Jvm.Cond.methodLink "MendedThings$Chain" (35 : Nat) ({ cls := "java/util/List", name := "get", desc := "(I)Ljava/lang/Object;" } : Jvm.MethodName)) ∈ lw_all := lw_g (lw_at lw_m5 221 rfl) rfl
theorem q1339 : (Jvm.Cond.classLink "MendedThings$Chain" (2 : Nat) "MendedThings$Value") ∈ lw_all := lw_g (lw_at lw_m5 222 rfl) rfl
theorem q1340 : (Jvm.Cond.methodLink "MendedThings$Chain" (39 : Nat) ({ cls := "MendedThings$Value", name := "at", desc := "(LMendedThings$Moment;)J" } : Jvm.MethodName)) ∈ lw_all := lw_g (lw_at lw_m5 223 rfl) rfl
theorem q1360 : (Jvm.Cond.interfaceEntry "MendedThings$Chain" (43 : Nat)) ∈ lw_tbl := lw_at lw_m6 3 rfl
theorem q1361 : (Jvm.Cond.methodLink "MendedThings$Chain" (43 : Nat) ({ cls := "java/util/List", name := "size", desc := "()I" } : Jvm.MethodName)) ∈ lw_all := lw_g (lw_at lw_m6 4 rfl) rfl
theorem q1362 : (Jvm.Cond.methodLink "MendedThings$Chain" (47 : Nat) ({ cls := "java/lang/StringBuilder", name := "charAt", desc := "(I)C" } : Jvm.MethodName)) ∈ lw_all := lw_g (lw_at lw_m6 5 rfl) rfl
theorem q1372 : (Jvm.Cond.methodLink "MendedThings$Chain" (51 : Nat) ({ cls := "MendedThings$Chain", name := "two", desc := "(CJJ)J" } : Jvm.MethodName)) ∈ lw_all := lw_g (lw_at lw_m6 15 rfl) rfl
theorem q1373 : (Jvm.Cond.static ({ cls := "MendedThings$Chain", name := "two", desc := "(CJJ)J" } : Jvm.MethodName)) ∈ lw_all := lw_g (lw_at lw_m6 16 rfl) rfl
theorem q1374 : (Jvm.Cond.code ({ cls := "MendedThings$Chain", name := "two", desc := "(CJJ)J" } : Jvm.MethodName) prog_4_method_4_code (5 : Nat) (Option.some Jvm.ClassFile.FieldType.long)) ∈ lw_all := lw_g (lw_at lw_m6 17 rfl) rfl
theorem q1375 : (Jvm.Cond.methodLink "MendedThings$Chain" (61 : Nat) ({ cls := "java/lang/Math", name := "floorDiv", desc := "(JJ)J" } : Jvm.MethodName)) ∈ lw_all := lw_g (lw_at lw_m6 18 rfl) rfl
theorem q1378 : (Jvm.Cond.methodLinkNest "MendedThings$Chain" (55 : Nat) ({ cls := "MendedThings", name := "held", desc := "(J)J" } : Jvm.MethodName) "MendedThings") ∈ lw_tbl := lw_at lw_m6 21 rfl
theorem q2581 : (Jvm.Cond.castable "MendedThings$Chain" "MendedThings$Value") ∈ lw_tbl := lw_at lw_m11 24 rfl
theorem q2601 : (Jvm.Cond.castable "MendedThings$Chain" "java/lang/Object") ∈ lw_tbl := lw_at lw_m11 44 rfl
theorem in_X16 : ∀ w ∈ wsX160, w ∈ lw_all := lw_in wsX160 [1048, 1050] (by decide +kernel) (by decide +kernel)
/-! MendedThings$Pair -/
set_option maxRecDepth 100000
def RX17 : String := "MendedThings$Pair"
def TX17 : u_T := fun k => match k with
  | 0 => ("MendedThings$Pair", "most", "Z", true)
  | 1 => ("MendedThings$Pair", "first", "LMendedThings$Value;", true)
  | _ => ("MendedThings$Pair", "second", "LMendedThings$Value;", true)
def tyX17 : Nat → FieldType := fun k => match k with
  | 0 => .boolean
  | 1 => .object "MendedThings$Value"
  | _ => .object "MendedThings$Value"
abbrev wsX170 : List Cond := u_ws RX17 TX17 3
theorem nmX17 : ∀ a, a < 3 → ∀ b, b < 3 → a ≠ b → (TX17 a).2.1 ≠ (TX17 b).2.1 := by decide +kernel
theorem tyX17_ok : ∀ k, k < 3 → parseFieldDescriptor (TX17 k).2.2.1 = some (tyX17 k) := by decide +kernel
abbrev cX17_init : ByteArray := prog_14_method_1_code
def yX17_init : MethodName := ⟨RX17, "<init>", "(ZLMendedThings$Value;LMendedThings$Value;)V"⟩
def dkwX17_init_0 : List UInt8 := [42, 183, 0, 1, 42, 27, 181, 0, 7, 42, 44, 181, 0, 13, 42, 45, 181, 0, 17, 177]
abbrev dktX17_init_0 : List UInt8 := dkwX17_init_0 ++ []
theorem dksX17_init_0 : cX17_init.data.toList.drop 0 = dktX17_init_0 := by decide +kernel
theorem dX17_init_0 : decode cX17_init 0 = .ok (.aload_n 0, 1) := dk_42 (dk_at dksX17_init_0 0 rfl rfl)
theorem dX17_init_1 : decode cX17_init 1 = .ok (.invokespecial 1, 3) := dk_183 0 1 (dk_at dksX17_init_0 1 rfl rfl)
theorem dX17_init_4 : decode cX17_init 4 = .ok (.aload_n 0, 1) := dk_42 (dk_at dksX17_init_0 4 rfl rfl)
theorem dX17_init_5 : decode cX17_init 5 = .ok (.iload_n 1, 1) := dk_27 (dk_at dksX17_init_0 5 rfl rfl)
theorem dX17_init_6 : decode cX17_init 6 = .ok (.putfield 7, 3) := dk_181 0 7 (dk_at dksX17_init_0 6 rfl rfl)
theorem dX17_init_9 : decode cX17_init 9 = .ok (.aload_n 0, 1) := dk_42 (dk_at dksX17_init_0 9 rfl rfl)
theorem dX17_init_10 : decode cX17_init 10 = .ok (.aload_n 2, 1) := dk_44 (dk_at dksX17_init_0 10 rfl rfl)
theorem dX17_init_11 : decode cX17_init 11 = .ok (.putfield 13, 3) := dk_181 0 13 (dk_at dksX17_init_0 11 rfl rfl)
theorem dX17_init_14 : decode cX17_init 14 = .ok (.aload_n 0, 1) := dk_42 (dk_at dksX17_init_0 14 rfl rfl)
theorem dX17_init_15 : decode cX17_init 15 = .ok (.aload_n 3, 1) := dk_45 (dk_at dksX17_init_0 15 rfl rfl)
theorem dX17_init_16 : decode cX17_init 16 = .ok (.putfield 17, 3) := dk_181 0 17 (dk_at dksX17_init_0 16 rfl rfl)
theorem dX17_init_19 : decode cX17_init 19 = .ok (.return_, 1) := dk_177 (dk_at dksX17_init_0 19 rfl rfl)
abbrev cX17_at : ByteArray := prog_14_method_2_code
def yX17_at : MethodName := ⟨RX17, "at", "(LMendedThings$Moment;)J"⟩
def dkwX17_at_1 : List UInt8 := [22, 4, 148, 158, 0, 7, 4, 167, 0, 4, 3, 160, 0, 7, 32, 167, 0, 5, 22, 4, 173]
abbrev dktX17_at_1 : List UInt8 := dkwX17_at_1 ++ []
def dkwX17_at_0 : List UInt8 := [42, 180, 0, 13, 43, 182, 0, 20, 65, 42, 180, 0, 17, 43, 182, 0, 20, 55, 4, 42, 180, 0, 7, 32]
abbrev dktX17_at_0 : List UInt8 := dkwX17_at_0 ++ dktX17_at_1
theorem dksX17_at_0 : cX17_at.data.toList.drop 0 = dktX17_at_0 := by decide +kernel
theorem dksX17_at_1 : cX17_at.data.toList.drop 24 = dktX17_at_1 := dk_seg dksX17_at_0 24 rfl rfl
theorem dX17_at_0 : decode cX17_at 0 = .ok (.aload_n 0, 1) := dk_42 (dk_at dksX17_at_0 0 rfl rfl)
theorem dX17_at_1 : decode cX17_at 1 = .ok (.getfield 13, 3) := dk_180 0 13 (dk_at dksX17_at_0 1 rfl rfl)
theorem dX17_at_4 : decode cX17_at 4 = .ok (.aload_n 1, 1) := dk_43 (dk_at dksX17_at_0 4 rfl rfl)
theorem dX17_at_5 : decode cX17_at 5 = .ok (.invokevirtual 20, 3) := dk_182 0 20 (dk_at dksX17_at_0 5 rfl rfl)
theorem dX17_at_8 : decode cX17_at 8 = .ok (.lstore_n 2, 1) := dk_65 (dk_at dksX17_at_0 8 rfl rfl)
theorem dX17_at_9 : decode cX17_at 9 = .ok (.aload_n 0, 1) := dk_42 (dk_at dksX17_at_0 9 rfl rfl)
theorem dX17_at_10 : decode cX17_at 10 = .ok (.getfield 17, 3) := dk_180 0 17 (dk_at dksX17_at_0 10 rfl rfl)
theorem dX17_at_13 : decode cX17_at 13 = .ok (.aload_n 1, 1) := dk_43 (dk_at dksX17_at_0 13 rfl rfl)
theorem dX17_at_14 : decode cX17_at 14 = .ok (.invokevirtual 20, 3) := dk_182 0 20 (dk_at dksX17_at_0 14 rfl rfl)
theorem dX17_at_17 : decode cX17_at 17 = .ok (.lstore 4, 2) := dk_55 4 (dk_at dksX17_at_0 17 rfl rfl)
theorem dX17_at_19 : decode cX17_at 19 = .ok (.aload_n 0, 1) := dk_42 (dk_at dksX17_at_0 19 rfl rfl)
theorem dX17_at_20 : decode cX17_at 20 = .ok (.getfield 7, 3) := dk_180 0 7 (dk_at dksX17_at_0 20 rfl rfl)
theorem dX17_at_23 : decode cX17_at 23 = .ok (.lload_n 2, 1) := dk_32 (dk_at dksX17_at_0 23 rfl rfl)
theorem dX17_at_24 : decode cX17_at 24 = .ok (.lload 4, 2) := dk_22 4 (dk_at dksX17_at_1 0 rfl rfl)
theorem dX17_at_26 : decode cX17_at 26 = .ok (.lcmp, 1) := dk_148 (dk_at dksX17_at_1 2 rfl rfl)
theorem dX17_at_27 : decode cX17_at 27 = .ok (.ifCond .le 7, 3) := dk_158 0 7 (dk_at dksX17_at_1 3 rfl rfl)
theorem dX17_at_30 : decode cX17_at 30 = .ok (.iconst 1, 1) := dk_4 (dk_at dksX17_at_1 6 rfl rfl)
theorem dX17_at_31 : decode cX17_at 31 = .ok (.goto 4, 3) := dk_167 0 4 (dk_at dksX17_at_1 7 rfl rfl)
theorem dX17_at_34 : decode cX17_at 34 = .ok (.iconst 0, 1) := dk_3 (dk_at dksX17_at_1 10 rfl rfl)
theorem dX17_at_35 : decode cX17_at 35 = .ok (.if_icmp .ne 7, 3) := dk_160 0 7 (dk_at dksX17_at_1 11 rfl rfl)
theorem dX17_at_38 : decode cX17_at 38 = .ok (.lload_n 2, 1) := dk_32 (dk_at dksX17_at_1 14 rfl rfl)
theorem dX17_at_39 : decode cX17_at 39 = .ok (.goto 5, 3) := dk_167 0 5 (dk_at dksX17_at_1 15 rfl rfl)
theorem dX17_at_42 : decode cX17_at 42 = .ok (.lload 4, 2) := dk_22 4 (dk_at dksX17_at_1 18 rfl rfl)
theorem dX17_at_44 : decode cX17_at 44 = .ok (.lreturn, 1) := dk_173 (dk_at dksX17_at_1 20 rfl rfl)
theorem q192 : (Jvm.Cond.initialized "MendedThings$Pair") ∈ lw_all := lw_g (lw_at lw_m1 35 rfl) rfl
theorem q898 : (Jvm.Cond.selects "MendedThings$Pair" ({ cls := "java/lang/Object", name := "getClass", desc := "()Ljava/lang/Class;" } : Jvm.MethodName) ({ cls := "java/lang/Object", name := "getClass", desc := "()Ljava/lang/Class;" } : Jvm.MethodName)) ∈ lw_all := lw_g (lw_at lw_m4 21 rfl) rfl
theorem q1066 : (Jvm.Cond.instantiable "MendedThings$Pair" (3 : Nat)) ∈ lw_all := lw_g (lw_at lw_m4 189 rfl) rfl
theorem q1068 : (Jvm.Cond.instanceMethod ({ cls := "MendedThings$Pair", name := "<init>", desc := "(ZLMendedThings$Value;LMendedThings$Value;)V" } : Jvm.MethodName)) ∈ lw_all := lw_g (lw_at lw_m4 191 rfl) rfl
theorem q1069 : (Jvm.Cond.code ({ cls := "MendedThings$Pair", name := "<init>", desc := "(ZLMendedThings$Value;LMendedThings$Value;)V" } : Jvm.MethodName) prog_14_method_1_code (4 : Nat) (Option.none : Option Jvm.ClassFile.FieldType)) ∈ lw_all := lw_g (lw_at lw_m4 192 rfl) rfl
theorem q1070 : (Jvm.Cond.methodLinkNest "MendedThings$Pair" (1 : Nat) ({ cls := "MendedThings$Value", name := "<init>", desc := "()V" } : Jvm.MethodName) "MendedThings") ∈ lw_tbl := lw_at lw_m4 193 rfl
theorem q1071 : (Jvm.Cond.fieldLink "MendedThings$Pair" (7 : Nat) "MendedThings$Pair" "most" "Z") ∈ lw_all := lw_g (lw_at lw_m4 194 rfl) rfl
theorem q1072 : (Jvm.Cond.fieldLink "MendedThings$Pair" (13 : Nat) "MendedThings$Pair" "first" "LMendedThings$Value;") ∈ lw_all := lw_g (lw_at lw_m4 195 rfl) rfl
theorem q1073 : (Jvm.Cond.fieldLink "MendedThings$Pair" (17 : Nat) "MendedThings$Pair" "second" "LMendedThings$Value;") ∈ lw_all := lw_g (lw_at lw_m4 196 rfl) rfl
theorem q1074 : (Jvm.Cond.laysFinal "MendedThings$Pair" "MendedThings$Pair" "most" "Z") ∈ lw_all := lw_g (lw_at lw_m4 197 rfl) rfl
theorem q1075 : (Jvm.Cond.soleField "MendedThings$Pair" "most") ∈ lw_all := lw_g (lw_at lw_m4 198 rfl) rfl
theorem q1076 : (Jvm.Cond.laysFinal "MendedThings$Pair" "MendedThings$Pair" "first" "LMendedThings$Value;") ∈ lw_all := lw_g (lw_at lw_m4 199 rfl) rfl
theorem q1077 : (Jvm.Cond.soleField "MendedThings$Pair" "first") ∈ lw_all := lw_g (lw_at lw_m4 200 rfl) rfl
theorem q1078 : (Jvm.Cond.laysFinal "MendedThings$Pair" "MendedThings$Pair" "second" "LMendedThings$Value;") ∈ lw_all := lw_g (lw_at lw_m4 201 rfl) rfl
theorem q1079 : (Jvm.Cond.soleField "MendedThings$Pair" "second") ∈ lw_all := lw_g (lw_at lw_m4 202 rfl) rfl
theorem q1080 : (Jvm.Cond.superclass "MendedThings$Pair" "MendedThings$Value") ∈ lw_all := lw_g (lw_at lw_m4 203 rfl) rfl
theorem q1346 : (Jvm.Cond.instanceMethod ({ cls := "MendedThings$Pair", name := "at", desc := "(LMendedThings$Moment;)J" } : Jvm.MethodName)) ∈ lw_all := lw_g (lw_at lw_m5 229 rfl) rfl
theorem q1347 : (Jvm.Cond.code ({ cls := "MendedThings$Pair", name := "at", desc := "(LMendedThings$Moment;)J" } : Jvm.MethodName) prog_14_method_2_code (6 : Nat) (Option.some Jvm.ClassFile.FieldType.long)) ∈ lw_all := lw_g (lw_at lw_m5 230 rfl) rfl
theorem q1348 : (Jvm.Cond.methodLink "MendedThings$Pair" (20 : Nat) ({ cls := "MendedThings$Value", name := "at", desc := "(LMendedThings$Moment;)J" } : Jvm.MethodName)) ∈ lw_all := lw_g (lw_at lw_m5 231 rfl) rfl
theorem q1381 : (Jvm.Cond.selects "MendedThings$Pair" ({ cls := "MendedThings$Value", name := "at", desc := "(LMendedThings$Moment;)J" } : Jvm.MethodName) ({ cls := "MendedThings$Pair", name := "at", desc := "(LMendedThings$Moment;)J" } : Jvm.MethodName)) ∈ lw_all := lw_g (lw_at lw_m6 24 rfl) rfl
theorem q2584 : (Jvm.Cond.castable "MendedThings$Pair" "MendedThings$Value") ∈ lw_tbl := lw_at lw_m11 27 rfl
theorem q2603 : (Jvm.Cond.castable "MendedThings$Pair" "java/lang/Object") ∈ lw_tbl := lw_at lw_m11 46 rfl
theorem in_X17 : ∀ w ∈ wsX170, w ∈ lw_all := lw_in wsX170 [1074, 1076, 1078] (by decide +kernel) (by decide +kernel)
/-! MendedThings$Fixed -/
set_option maxRecDepth 100000
def RX18 : String := "MendedThings$Fixed"
def TX18 : u_T := fun k => match k with
  | _ => ("MendedThings$Fixed", "value", "J", true)
def tyX18 : Nat → FieldType := fun k => match k with
  | _ => .long
abbrev wsX180 : List Cond := u_ws RX18 TX18 1
theorem nmX18 : ∀ a, a < 1 → ∀ b, b < 1 → a ≠ b → (TX18 a).2.1 ≠ (TX18 b).2.1 := by decide +kernel
theorem tyX18_ok : ∀ k, k < 1 → parseFieldDescriptor (TX18 k).2.2.1 = some (tyX18 k) := by decide +kernel
abbrev cX18_init : ByteArray := prog_7_method_1_code
def yX18_init : MethodName := ⟨RX18, "<init>", "(J)V"⟩
def dkwX18_init_0 : List UInt8 := [42, 183, 0, 1, 42, 31, 181, 0, 7, 177]
abbrev dktX18_init_0 : List UInt8 := dkwX18_init_0 ++ []
theorem dksX18_init_0 : cX18_init.data.toList.drop 0 = dktX18_init_0 := by decide +kernel
theorem dX18_init_0 : decode cX18_init 0 = .ok (.aload_n 0, 1) := dk_42 (dk_at dksX18_init_0 0 rfl rfl)
theorem dX18_init_1 : decode cX18_init 1 = .ok (.invokespecial 1, 3) := dk_183 0 1 (dk_at dksX18_init_0 1 rfl rfl)
theorem dX18_init_4 : decode cX18_init 4 = .ok (.aload_n 0, 1) := dk_42 (dk_at dksX18_init_0 4 rfl rfl)
theorem dX18_init_5 : decode cX18_init 5 = .ok (.lload_n 1, 1) := dk_31 (dk_at dksX18_init_0 5 rfl rfl)
theorem dX18_init_6 : decode cX18_init 6 = .ok (.putfield 7, 3) := dk_181 0 7 (dk_at dksX18_init_0 6 rfl rfl)
theorem dX18_init_9 : decode cX18_init 9 = .ok (.return_, 1) := dk_177 (dk_at dksX18_init_0 9 rfl rfl)
abbrev cX18_at : ByteArray := prog_7_method_2_code
def yX18_at : MethodName := ⟨RX18, "at", "(LMendedThings$Moment;)J"⟩
theorem dX18_at_0 : decode cX18_at 0 = .ok (.aload_n 0, 1) := by decide +kernel
theorem dX18_at_1 : decode cX18_at 1 = .ok (.getfield 7, 3) := by decide +kernel
theorem dX18_at_4 : decode cX18_at 4 = .ok (.lreturn, 1) := by decide +kernel
theorem q193 : (Jvm.Cond.initialized "MendedThings$Fixed") ∈ lw_all := lw_g (lw_at lw_m1 36 rfl) rfl
theorem q892 : (Jvm.Cond.selects "MendedThings$Fixed" ({ cls := "java/lang/Object", name := "getClass", desc := "()Ljava/lang/Class;" } : Jvm.MethodName) ({ cls := "java/lang/Object", name := "getClass", desc := "()Ljava/lang/Class;" } : Jvm.MethodName)) ∈ lw_all := lw_g (lw_at lw_m4 15 rfl) rfl
theorem q1082 : (Jvm.Cond.instantiable "MendedThings$Fixed" (1 : Nat)) ∈ lw_all := lw_g (lw_at lw_m4 205 rfl) rfl
theorem q1084 : (Jvm.Cond.instanceMethod ({ cls := "MendedThings$Fixed", name := "<init>", desc := "(J)V" } : Jvm.MethodName)) ∈ lw_all := lw_g (lw_at lw_m4 207 rfl) rfl
theorem q1085 : (Jvm.Cond.code ({ cls := "MendedThings$Fixed", name := "<init>", desc := "(J)V" } : Jvm.MethodName) prog_7_method_1_code (3 : Nat) (Option.none : Option Jvm.ClassFile.FieldType)) ∈ lw_all := lw_g (lw_at lw_m4 208 rfl) rfl
theorem q1086 : (Jvm.Cond.methodLinkNest "MendedThings$Fixed" (1 : Nat) ({ cls := "MendedThings$Value", name := "<init>", desc := "()V" } : Jvm.MethodName) "MendedThings") ∈ lw_tbl := lw_at lw_m4 209 rfl
theorem q1087 : (Jvm.Cond.fieldLink "MendedThings$Fixed" (7 : Nat) "MendedThings$Fixed" "value" "J") ∈ lw_all := lw_g (lw_at lw_m4 210 rfl) rfl
theorem q1088 : (Jvm.Cond.laysFinal "MendedThings$Fixed" "MendedThings$Fixed" "value" "J") ∈ lw_all := lw_g (lw_at lw_m4 211 rfl) rfl
theorem q1089 : (Jvm.Cond.soleField "MendedThings$Fixed" "value") ∈ lw_all := lw_g (lw_at lw_m4 212 rfl) rfl
theorem q1090 : (Jvm.Cond.superclass "MendedThings$Fixed" "MendedThings$Value") ∈ lw_all := lw_g (lw_at lw_m4 213 rfl) rfl
theorem q1341 : (Jvm.Cond.instanceMethod ({ cls := "MendedThings$Fixed", name := "at", desc := "(LMendedThings$Moment;)J" } : Jvm.MethodName)) ∈ lw_all := lw_g (lw_at lw_m5 224 rfl) rfl
theorem q1342 : (Jvm.Cond.code ({ cls := "MendedThings$Fixed", name := "at", desc := "(LMendedThings$Moment;)J" } : Jvm.MethodName) prog_7_method_2_code (2 : Nat) (Option.some Jvm.ClassFile.FieldType.long)) ∈ lw_all := lw_g (lw_at lw_m5 225 rfl) rfl
theorem q1379 : (Jvm.Cond.selects "MendedThings$Fixed" ({ cls := "MendedThings$Value", name := "at", desc := "(LMendedThings$Moment;)J" } : Jvm.MethodName) ({ cls := "MendedThings$Fixed", name := "at", desc := "(LMendedThings$Moment;)J" } : Jvm.MethodName)) ∈ lw_all := lw_g (lw_at lw_m6 22 rfl) rfl
theorem q2582 : (Jvm.Cond.castable "MendedThings$Fixed" "MendedThings$Value") ∈ lw_tbl := lw_at lw_m11 25 rfl
theorem q2604 : (Jvm.Cond.castable "MendedThings$Fixed" "java/lang/Object") ∈ lw_tbl := lw_at lw_m11 47 rfl
theorem in_X18 : ∀ w ∈ wsX180, w ∈ lw_all := lw_in wsX180 [1088] (by decide +kernel) (by decide +kernel)
/-! MendedThings$Asked -/
set_option maxRecDepth 100000
def RX19 : String := "MendedThings$Asked"
def TX19 : u_T := fun k => match k with
  | _ => ("MendedThings$Asked", "what", "I", true)
def tyX19 : Nat → FieldType := fun k => match k with
  | _ => .int
abbrev wsX190 : List Cond := u_ws RX19 TX19 1
theorem nmX19 : ∀ a, a < 1 → ∀ b, b < 1 → a ≠ b → (TX19 a).2.1 ≠ (TX19 b).2.1 := by decide +kernel
theorem tyX19_ok : ∀ k, k < 1 → parseFieldDescriptor (TX19 k).2.2.1 = some (tyX19 k) := by decide +kernel
abbrev cX19_init : ByteArray := prog_3_method_1_code
def yX19_init : MethodName := ⟨RX19, "<init>", "(I)V"⟩
def dkwX19_init_0 : List UInt8 := [42, 183, 0, 1, 42, 27, 181, 0, 7, 177]
abbrev dktX19_init_0 : List UInt8 := dkwX19_init_0 ++ []
theorem dksX19_init_0 : cX19_init.data.toList.drop 0 = dktX19_init_0 := by decide +kernel
theorem dX19_init_0 : decode cX19_init 0 = .ok (.aload_n 0, 1) := dk_42 (dk_at dksX19_init_0 0 rfl rfl)
theorem dX19_init_1 : decode cX19_init 1 = .ok (.invokespecial 1, 3) := dk_183 0 1 (dk_at dksX19_init_0 1 rfl rfl)
theorem dX19_init_4 : decode cX19_init 4 = .ok (.aload_n 0, 1) := dk_42 (dk_at dksX19_init_0 4 rfl rfl)
theorem dX19_init_5 : decode cX19_init 5 = .ok (.iload_n 1, 1) := dk_27 (dk_at dksX19_init_0 5 rfl rfl)
theorem dX19_init_6 : decode cX19_init 6 = .ok (.putfield 7, 3) := dk_181 0 7 (dk_at dksX19_init_0 6 rfl rfl)
theorem dX19_init_9 : decode cX19_init 9 = .ok (.return_, 1) := dk_177 (dk_at dksX19_init_0 9 rfl rfl)
abbrev cX19_at : ByteArray := prog_3_method_2_code
def yX19_at : MethodName := ⟨RX19, "at", "(LMendedThings$Moment;)J"⟩
def dkwX19_at_0 : List UInt8 := [43, 180, 0, 13, 42, 180, 0, 7, 47, 184, 0, 19, 173]
abbrev dktX19_at_0 : List UInt8 := dkwX19_at_0 ++ []
theorem dksX19_at_0 : cX19_at.data.toList.drop 0 = dktX19_at_0 := by decide +kernel
theorem dX19_at_0 : decode cX19_at 0 = .ok (.aload_n 1, 1) := dk_43 (dk_at dksX19_at_0 0 rfl rfl)
theorem dX19_at_1 : decode cX19_at 1 = .ok (.getfield 13, 3) := dk_180 0 13 (dk_at dksX19_at_0 1 rfl rfl)
theorem dX19_at_4 : decode cX19_at 4 = .ok (.aload_n 0, 1) := dk_42 (dk_at dksX19_at_0 4 rfl rfl)
theorem dX19_at_5 : decode cX19_at 5 = .ok (.getfield 7, 3) := dk_180 0 7 (dk_at dksX19_at_0 5 rfl rfl)
theorem dX19_at_8 : decode cX19_at 8 = .ok (.laload, 1) := dk_47 (dk_at dksX19_at_0 8 rfl rfl)
theorem dX19_at_9 : decode cX19_at 9 = .ok (.invokestatic 19, 3) := dk_184 0 19 (dk_at dksX19_at_0 9 rfl rfl)
theorem dX19_at_12 : decode cX19_at 12 = .ok (.lreturn, 1) := dk_173 (dk_at dksX19_at_0 12 rfl rfl)
theorem q194 : (Jvm.Cond.initialized "MendedThings$Asked") ∈ lw_all := lw_g (lw_at lw_m1 37 rfl) rfl
theorem q396 : (Jvm.Cond.fieldLinkNest "MendedThings$Asked" (13 : Nat) "MendedThings$Moment" "of" "[J" "MendedThings") ∈ lw_tbl := lw_at lw_m1 239 rfl
theorem q888 : (Jvm.Cond.selects "MendedThings$Asked" ({ cls := "java/lang/Object", name := "getClass", desc := "()Ljava/lang/Class;" } : Jvm.MethodName) ({ cls := "java/lang/Object", name := "getClass", desc := "()Ljava/lang/Class;" } : Jvm.MethodName)) ∈ lw_all := lw_g (lw_at lw_m4 11 rfl) rfl
theorem q1097 : (Jvm.Cond.instantiable "MendedThings$Asked" (1 : Nat)) ∈ lw_all := lw_g (lw_at lw_m4 220 rfl) rfl
theorem q1099 : (Jvm.Cond.instanceMethod ({ cls := "MendedThings$Asked", name := "<init>", desc := "(I)V" } : Jvm.MethodName)) ∈ lw_all := lw_g (lw_at lw_m4 222 rfl) rfl
theorem q1100 : (Jvm.Cond.code ({ cls := "MendedThings$Asked", name := "<init>", desc := "(I)V" } : Jvm.MethodName) prog_3_method_1_code (2 : Nat) (Option.none : Option Jvm.ClassFile.FieldType)) ∈ lw_all := lw_g (lw_at lw_m4 223 rfl) rfl
theorem q1101 : (Jvm.Cond.methodLinkNest "MendedThings$Asked" (1 : Nat) ({ cls := "MendedThings$Value", name := "<init>", desc := "()V" } : Jvm.MethodName) "MendedThings") ∈ lw_tbl := lw_at lw_m4 224 rfl
theorem q1102 : (Jvm.Cond.fieldLink "MendedThings$Asked" (7 : Nat) "MendedThings$Asked" "what" "I") ∈ lw_all := lw_g (lw_at lw_m4 225 rfl) rfl
theorem q1103 : (Jvm.Cond.laysFinal "MendedThings$Asked" "MendedThings$Asked" "what" "I") ∈ lw_all := lw_g (lw_at lw_m4 226 rfl) rfl
theorem q1104 : (Jvm.Cond.soleField "MendedThings$Asked" "what") ∈ lw_all := lw_g (lw_at lw_m4 227 rfl) rfl
theorem q1105 : (Jvm.Cond.superclass "MendedThings$Asked" "MendedThings$Value") ∈ lw_all := lw_g (lw_at lw_m4 228 rfl) rfl
theorem q1320 : (Jvm.Cond.selects "MendedThings$Asked" ({ cls := "MendedThings$Value", name := "at", desc := "(LMendedThings$Moment;)J" } : Jvm.MethodName) ({ cls := "MendedThings$Asked", name := "at", desc := "(LMendedThings$Moment;)J" } : Jvm.MethodName)) ∈ lw_all := lw_g (lw_at lw_m5 203 rfl) rfl
theorem q1321 : (Jvm.Cond.instanceMethod ({ cls := "MendedThings$Asked", name := "at", desc := "(LMendedThings$Moment;)J" } : Jvm.MethodName)) ∈ lw_all := lw_g (lw_at lw_m5 204 rfl) rfl
theorem q1322 : (Jvm.Cond.code ({ cls := "MendedThings$Asked", name := "at", desc := "(LMendedThings$Moment;)J" } : Jvm.MethodName) prog_3_method_2_code (2 : Nat) (Option.some Jvm.ClassFile.FieldType.long)) ∈ lw_all := lw_g (lw_at lw_m5 205 rfl) rfl
theorem q1323 : (Jvm.Cond.methodLinkNest "MendedThings$Asked" (19 : Nat) ({ cls := "MendedThings", name := "held", desc := "(J)J" } : Jvm.MethodName) "MendedThings") ∈ lw_tbl := lw_at lw_m5 206 rfl
theorem q2580 : (Jvm.Cond.castable "MendedThings$Asked" "MendedThings$Value") ∈ lw_tbl := lw_at lw_m11 23 rfl
theorem q2605 : (Jvm.Cond.castable "MendedThings$Asked" "java/lang/Object") ∈ lw_tbl := lw_at lw_m11 48 rfl
theorem in_X19 : ∀ w ∈ wsX190, w ∈ lw_all := lw_in wsX190 [1103] (by decide +kernel) (by decide +kernel)
/-! MendedThings$Looked -/
set_option maxRecDepth 100000
def RX20 : String := "MendedThings$Looked"
def TX20 : u_T := fun k => match k with
  | 0 => ("MendedThings$Looked", "what", "I", true)
  | 1 => ("MendedThings$Looked", "of", "LMendedThings$Value;", true)
  | _ => ("MendedThings$Looked", "this$0", "LMendedThings;", true)
def tyX20 : Nat → FieldType := fun k => match k with
  | 0 => .int
  | 1 => .object "MendedThings$Value"
  | _ => .object "MendedThings"
abbrev wsX200 : List Cond := u_ws RX20 TX20 3
theorem nmX20 : ∀ a, a < 3 → ∀ b, b < 3 → a ≠ b → (TX20 a).2.1 ≠ (TX20 b).2.1 := by decide +kernel
theorem tyX20_ok : ∀ k, k < 3 → parseFieldDescriptor (TX20 k).2.2.1 = some (tyX20 k) := by decide +kernel
abbrev cX20_init : ByteArray := prog_9_method_1_code
def yX20_init : MethodName := ⟨RX20, "<init>", "(LMendedThings;ILMendedThings$Value;)V"⟩
def dkwX20_init_0 : List UInt8 := [42, 43, 181, 0, 1, 42, 183, 0, 7, 42, 28, 181, 0, 13, 42, 45, 181, 0, 17, 177]
abbrev dktX20_init_0 : List UInt8 := dkwX20_init_0 ++ []
theorem dksX20_init_0 : cX20_init.data.toList.drop 0 = dktX20_init_0 := by decide +kernel
theorem dX20_init_0 : decode cX20_init 0 = .ok (.aload_n 0, 1) := dk_42 (dk_at dksX20_init_0 0 rfl rfl)
theorem dX20_init_1 : decode cX20_init 1 = .ok (.aload_n 1, 1) := dk_43 (dk_at dksX20_init_0 1 rfl rfl)
theorem dX20_init_2 : decode cX20_init 2 = .ok (.putfield 1, 3) := dk_181 0 1 (dk_at dksX20_init_0 2 rfl rfl)
theorem dX20_init_5 : decode cX20_init 5 = .ok (.aload_n 0, 1) := dk_42 (dk_at dksX20_init_0 5 rfl rfl)
theorem dX20_init_6 : decode cX20_init 6 = .ok (.invokespecial 7, 3) := dk_183 0 7 (dk_at dksX20_init_0 6 rfl rfl)
theorem dX20_init_9 : decode cX20_init 9 = .ok (.aload_n 0, 1) := dk_42 (dk_at dksX20_init_0 9 rfl rfl)
theorem dX20_init_10 : decode cX20_init 10 = .ok (.iload_n 2, 1) := dk_28 (dk_at dksX20_init_0 10 rfl rfl)
theorem dX20_init_11 : decode cX20_init 11 = .ok (.putfield 13, 3) := dk_181 0 13 (dk_at dksX20_init_0 11 rfl rfl)
theorem dX20_init_14 : decode cX20_init 14 = .ok (.aload_n 0, 1) := dk_42 (dk_at dksX20_init_0 14 rfl rfl)
theorem dX20_init_15 : decode cX20_init 15 = .ok (.aload_n 3, 1) := dk_45 (dk_at dksX20_init_0 15 rfl rfl)
theorem dX20_init_16 : decode cX20_init 16 = .ok (.putfield 17, 3) := dk_181 0 17 (dk_at dksX20_init_0 16 rfl rfl)
theorem dX20_init_19 : decode cX20_init 19 = .ok (.return_, 1) := dk_177 (dk_at dksX20_init_0 19 rfl rfl)
abbrev cX20_at : ByteArray := prog_9_method_2_code
def yX20_at : MethodName := ⟨RX20, "at", "(LMendedThings$Moment;)J"⟩
def dkwX20_at_0 : List UInt8 := [42, 180, 0, 1, 42, 180, 0, 13, 42, 180, 0, 17, 43, 182, 0, 21, 182, 0, 25, 184, 0, 31, 173]
abbrev dktX20_at_0 : List UInt8 := dkwX20_at_0 ++ []
theorem dksX20_at_0 : cX20_at.data.toList.drop 0 = dktX20_at_0 := by decide +kernel
theorem dX20_at_0 : decode cX20_at 0 = .ok (.aload_n 0, 1) := dk_42 (dk_at dksX20_at_0 0 rfl rfl)
theorem dX20_at_1 : decode cX20_at 1 = .ok (.getfield 1, 3) := dk_180 0 1 (dk_at dksX20_at_0 1 rfl rfl)
theorem dX20_at_4 : decode cX20_at 4 = .ok (.aload_n 0, 1) := dk_42 (dk_at dksX20_at_0 4 rfl rfl)
theorem dX20_at_5 : decode cX20_at 5 = .ok (.getfield 13, 3) := dk_180 0 13 (dk_at dksX20_at_0 5 rfl rfl)
theorem dX20_at_8 : decode cX20_at 8 = .ok (.aload_n 0, 1) := dk_42 (dk_at dksX20_at_0 8 rfl rfl)
theorem dX20_at_9 : decode cX20_at 9 = .ok (.getfield 17, 3) := dk_180 0 17 (dk_at dksX20_at_0 9 rfl rfl)
theorem dX20_at_12 : decode cX20_at 12 = .ok (.aload_n 1, 1) := dk_43 (dk_at dksX20_at_0 12 rfl rfl)
theorem dX20_at_13 : decode cX20_at 13 = .ok (.invokevirtual 21, 3) := dk_182 0 21 (dk_at dksX20_at_0 13 rfl rfl)
theorem dX20_at_16 : decode cX20_at 16 = .ok (.invokevirtual 25, 3) := dk_182 0 25 (dk_at dksX20_at_0 16 rfl rfl)
theorem dX20_at_19 : decode cX20_at 19 = .ok (.invokestatic 31, 3) := dk_184 0 31 (dk_at dksX20_at_0 19 rfl rfl)
theorem dX20_at_22 : decode cX20_at 22 = .ok (.lreturn, 1) := dk_173 (dk_at dksX20_at_0 22 rfl rfl)
theorem q195 : (Jvm.Cond.initialized "MendedThings$Looked") ∈ lw_all := lw_g (lw_at lw_m1 38 rfl) rfl
theorem q894 : (Jvm.Cond.selects "MendedThings$Looked" ({ cls := "java/lang/Object", name := "getClass", desc := "()Ljava/lang/Class;" } : Jvm.MethodName) ({ cls := "java/lang/Object", name := "getClass", desc := "()Ljava/lang/Class;" } : Jvm.MethodName)) ∈ lw_all := lw_g (lw_at lw_m4 17 rfl) rfl
theorem q1113 : (Jvm.Cond.instantiable "MendedThings$Looked" (3 : Nat)) ∈ lw_all := lw_g (lw_at lw_m4 236 rfl) rfl
theorem q1115 : (Jvm.Cond.instanceMethod ({ cls := "MendedThings$Looked", name := "<init>", desc := "(LMendedThings;ILMendedThings$Value;)V" } : Jvm.MethodName)) ∈ lw_all := lw_g (lw_at lw_m4 238 rfl) rfl
theorem q1116 : (Jvm.Cond.code ({ cls := "MendedThings$Looked", name := "<init>", desc := "(LMendedThings;ILMendedThings$Value;)V" } : Jvm.MethodName) prog_9_method_1_code (4 : Nat) (Option.none : Option Jvm.ClassFile.FieldType)) ∈ lw_all := lw_g (lw_at lw_m4 239 rfl) rfl
theorem q1117 : (Jvm.Cond.methodLinkNest "MendedThings$Looked" (7 : Nat) ({ cls := "MendedThings$Value", name := "<init>", desc := "()V" } : Jvm.MethodName) "MendedThings") ∈ lw_tbl := lw_at lw_m5 0 rfl
theorem q1118 : (Jvm.Cond.fieldLink "MendedThings$Looked" (13 : Nat) "MendedThings$Looked" "what" "I") ∈ lw_all := lw_g (lw_at lw_m5 1 rfl) rfl
theorem q1119 : (Jvm.Cond.fieldLink "MendedThings$Looked" (17 : Nat) "MendedThings$Looked" "of" "LMendedThings$Value;") ∈ lw_all := lw_g (lw_at lw_m5 2 rfl) rfl
theorem q1120 : (Jvm.Cond.fieldLink "MendedThings$Looked" (1 : Nat) "MendedThings$Looked" "this$0" "LMendedThings;") ∈ lw_all := lw_g (lw_at lw_m5 3 rfl) rfl
theorem q1121 : (Jvm.Cond.laysFinal "MendedThings$Looked" "MendedThings$Looked" "what" "I") ∈ lw_all := lw_g (lw_at lw_m5 4 rfl) rfl
theorem q1122 : (Jvm.Cond.soleField "MendedThings$Looked" "what") ∈ lw_all := lw_g (lw_at lw_m5 5 rfl) rfl
theorem q1123 : (Jvm.Cond.laysFinal "MendedThings$Looked" "MendedThings$Looked" "of" "LMendedThings$Value;") ∈ lw_all := lw_g (lw_at lw_m5 6 rfl) rfl
theorem q1124 : (Jvm.Cond.soleField "MendedThings$Looked" "of") ∈ lw_all := lw_g (lw_at lw_m5 7 rfl) rfl
theorem q1125 : (Jvm.Cond.laysFinal "MendedThings$Looked" "MendedThings$Looked" "this$0" "LMendedThings;") ∈ lw_all := lw_g (lw_at lw_m5 8 rfl) rfl
theorem q1126 : (Jvm.Cond.soleField "MendedThings$Looked" "this$0") ∈ lw_all := lw_g (lw_at lw_m5 9 rfl) rfl
theorem q1127 : (Jvm.Cond.superclass "MendedThings$Looked" "MendedThings$Value") ∈ lw_all := lw_g (lw_at lw_m5 10 rfl) rfl
theorem q1343 : (Jvm.Cond.instanceMethod ({ cls := "MendedThings$Looked", name := "at", desc := "(LMendedThings$Moment;)J" } : Jvm.MethodName)) ∈ lw_all := lw_g (lw_at lw_m5 226 rfl) rfl
theorem q1344 : (Jvm.Cond.code ({ cls := "MendedThings$Looked", name := "at", desc := "(LMendedThings$Moment;)J" } : Jvm.MethodName) prog_9_method_2_code (2 : Nat) (Option.some Jvm.ClassFile.FieldType.long)) ∈ lw_all := lw_g (lw_at lw_m5 227 rfl) rfl
theorem q1345 : (Jvm.Cond.methodLink "MendedThings$Looked" (21 : Nat) ({ cls := "MendedThings$Value", name := "at", desc := "(LMendedThings$Moment;)J" } : Jvm.MethodName)) ∈ lw_all := lw_g (lw_at lw_m5 228 rfl) rfl
theorem q1349 : (Jvm.Cond.methodLinkNest "MendedThings$Looked" (25 : Nat) ({ cls := "MendedThings", name := "looked", desc := "(IJ)J" } : Jvm.MethodName) "MendedThings") ∈ lw_tbl := lw_at lw_m5 232 rfl
theorem q1359 : (Jvm.Cond.methodLinkNest "MendedThings$Looked" (31 : Nat) ({ cls := "MendedThings", name := "held", desc := "(J)J" } : Jvm.MethodName) "MendedThings") ∈ lw_tbl := lw_at lw_m6 2 rfl
theorem q1380 : (Jvm.Cond.selects "MendedThings$Looked" ({ cls := "MendedThings$Value", name := "at", desc := "(LMendedThings$Moment;)J" } : Jvm.MethodName) ({ cls := "MendedThings$Looked", name := "at", desc := "(LMendedThings$Moment;)J" } : Jvm.MethodName)) ∈ lw_all := lw_g (lw_at lw_m6 23 rfl) rfl
theorem q2583 : (Jvm.Cond.castable "MendedThings$Looked" "MendedThings$Value") ∈ lw_tbl := lw_at lw_m11 26 rfl
theorem q2606 : (Jvm.Cond.castable "MendedThings$Looked" "java/lang/Object") ∈ lw_tbl := lw_at lw_m11 49 rfl
theorem in_X20 : ∀ w ∈ wsX200, w ∈ lw_all := lw_in wsX200 [1121, 1123, 1125] (by decide +kernel) (by decide +kernel)
/-! MendedThings$Than -/
set_option maxRecDepth 100000
def RX21 : String := "MendedThings$Than"
def TX21 : u_T := fun k => match k with
  | 0 => ("MendedThings$Than", "a", "LMendedThings$Value;", true)
  | 1 => ("MendedThings$Than", "b", "LMendedThings$Value;", true)
  | _ => ("MendedThings$Than", "sign", "I", true)
def tyX21 : Nat → FieldType := fun k => match k with
  | 0 => .object "MendedThings$Value"
  | 1 => .object "MendedThings$Value"
  | _ => .int
abbrev wsX210 : List Cond := u_ws RX21 TX21 3
theorem nmX21 : ∀ a, a < 3 → ∀ b, b < 3 → a ≠ b → (TX21 a).2.1 ≠ (TX21 b).2.1 := by decide +kernel
theorem tyX21_ok : ∀ k, k < 3 → parseFieldDescriptor (TX21 k).2.2.1 = some (tyX21 k) := by decide +kernel
abbrev cX21_init : ByteArray := prog_19_method_1_code
def yX21_init : MethodName := ⟨RX21, "<init>", "(LMendedThings$Value;ILMendedThings$Value;)V"⟩
def dkwX21_init_0 : List UInt8 := [42, 183, 0, 1, 42, 43, 181, 0, 7, 42, 28, 181, 0, 13, 42, 45, 181, 0, 17, 177]
abbrev dktX21_init_0 : List UInt8 := dkwX21_init_0 ++ []
theorem dksX21_init_0 : cX21_init.data.toList.drop 0 = dktX21_init_0 := by decide +kernel
theorem dX21_init_0 : decode cX21_init 0 = .ok (.aload_n 0, 1) := dk_42 (dk_at dksX21_init_0 0 rfl rfl)
theorem dX21_init_1 : decode cX21_init 1 = .ok (.invokespecial 1, 3) := dk_183 0 1 (dk_at dksX21_init_0 1 rfl rfl)
theorem dX21_init_4 : decode cX21_init 4 = .ok (.aload_n 0, 1) := dk_42 (dk_at dksX21_init_0 4 rfl rfl)
theorem dX21_init_5 : decode cX21_init 5 = .ok (.aload_n 1, 1) := dk_43 (dk_at dksX21_init_0 5 rfl rfl)
theorem dX21_init_6 : decode cX21_init 6 = .ok (.putfield 7, 3) := dk_181 0 7 (dk_at dksX21_init_0 6 rfl rfl)
theorem dX21_init_9 : decode cX21_init 9 = .ok (.aload_n 0, 1) := dk_42 (dk_at dksX21_init_0 9 rfl rfl)
theorem dX21_init_10 : decode cX21_init 10 = .ok (.iload_n 2, 1) := dk_28 (dk_at dksX21_init_0 10 rfl rfl)
theorem dX21_init_11 : decode cX21_init 11 = .ok (.putfield 13, 3) := dk_181 0 13 (dk_at dksX21_init_0 11 rfl rfl)
theorem dX21_init_14 : decode cX21_init 14 = .ok (.aload_n 0, 1) := dk_42 (dk_at dksX21_init_0 14 rfl rfl)
theorem dX21_init_15 : decode cX21_init 15 = .ok (.aload_n 3, 1) := dk_45 (dk_at dksX21_init_0 15 rfl rfl)
theorem dX21_init_16 : decode cX21_init 16 = .ok (.putfield 17, 3) := dk_181 0 17 (dk_at dksX21_init_0 16 rfl rfl)
theorem dX21_init_19 : decode cX21_init 19 = .ok (.return_, 1) := dk_177 (dk_at dksX21_init_0 19 rfl rfl)
abbrev cX21_holds : ByteArray := prog_19_method_2_code
def yX21_holds : MethodName := ⟨RX21, "holds", "(LMendedThings$Moment;)Z"⟩
def dkwX21_holds_3 : List UInt8 := [154, 0, 7, 4, 167, 0, 4, 3, 172]
abbrev dktX21_holds_3 : List UInt8 := dkwX21_holds_3 ++ []
def dkwX21_holds_2 : List UInt8 := [16, 62, 160, 0, 18, 32, 22, 4, 148, 158, 0, 7, 4, 167, 0, 19, 3, 167, 0, 15, 32, 22, 4, 148]
abbrev dktX21_holds_2 : List UInt8 := dkwX21_holds_2 ++ dktX21_holds_3
def dkwX21_holds_1 : List UInt8 := [16, 60, 160, 0, 18, 32, 22, 4, 148, 156, 0, 7, 4, 167, 0, 43, 3, 167, 0, 39, 42, 180, 0, 13]
abbrev dktX21_holds_1 : List UInt8 := dkwX21_holds_1 ++ dktX21_holds_2
def dkwX21_holds_0 : List UInt8 := [42, 180, 0, 7, 43, 182, 0, 20, 65, 42, 180, 0, 17, 43, 182, 0, 20, 55, 4, 42, 180, 0, 13]
abbrev dktX21_holds_0 : List UInt8 := dkwX21_holds_0 ++ dktX21_holds_1
theorem dksX21_holds_0 : cX21_holds.data.toList.drop 0 = dktX21_holds_0 := by decide +kernel
theorem dksX21_holds_1 : cX21_holds.data.toList.drop 23 = dktX21_holds_1 := dk_seg dksX21_holds_0 23 rfl rfl
theorem dksX21_holds_2 : cX21_holds.data.toList.drop 47 = dktX21_holds_2 := dk_seg dksX21_holds_1 24 rfl rfl
theorem dksX21_holds_3 : cX21_holds.data.toList.drop 71 = dktX21_holds_3 := dk_seg dksX21_holds_2 24 rfl rfl
theorem dX21_holds_0 : decode cX21_holds 0 = .ok (.aload_n 0, 1) := dk_42 (dk_at dksX21_holds_0 0 rfl rfl)
theorem dX21_holds_1 : decode cX21_holds 1 = .ok (.getfield 7, 3) := dk_180 0 7 (dk_at dksX21_holds_0 1 rfl rfl)
theorem dX21_holds_4 : decode cX21_holds 4 = .ok (.aload_n 1, 1) := dk_43 (dk_at dksX21_holds_0 4 rfl rfl)
theorem dX21_holds_5 : decode cX21_holds 5 = .ok (.invokevirtual 20, 3) := dk_182 0 20 (dk_at dksX21_holds_0 5 rfl rfl)
theorem dX21_holds_8 : decode cX21_holds 8 = .ok (.lstore_n 2, 1) := dk_65 (dk_at dksX21_holds_0 8 rfl rfl)
theorem dX21_holds_9 : decode cX21_holds 9 = .ok (.aload_n 0, 1) := dk_42 (dk_at dksX21_holds_0 9 rfl rfl)
theorem dX21_holds_10 : decode cX21_holds 10 = .ok (.getfield 17, 3) := dk_180 0 17 (dk_at dksX21_holds_0 10 rfl rfl)
theorem dX21_holds_13 : decode cX21_holds 13 = .ok (.aload_n 1, 1) := dk_43 (dk_at dksX21_holds_0 13 rfl rfl)
theorem dX21_holds_14 : decode cX21_holds 14 = .ok (.invokevirtual 20, 3) := dk_182 0 20 (dk_at dksX21_holds_0 14 rfl rfl)
theorem dX21_holds_17 : decode cX21_holds 17 = .ok (.lstore 4, 2) := dk_55 4 (dk_at dksX21_holds_0 17 rfl rfl)
theorem dX21_holds_19 : decode cX21_holds 19 = .ok (.aload_n 0, 1) := dk_42 (dk_at dksX21_holds_0 19 rfl rfl)
theorem dX21_holds_20 : decode cX21_holds 20 = .ok (.getfield 13, 3) := dk_180 0 13 (dk_at dksX21_holds_0 20 rfl rfl)
theorem dX21_holds_23 : decode cX21_holds 23 = .ok (.bipush 60, 2) := dk_16 60 (dk_at dksX21_holds_1 0 rfl rfl)
theorem dX21_holds_25 : decode cX21_holds 25 = .ok (.if_icmp .ne 18, 3) := dk_160 0 18 (dk_at dksX21_holds_1 2 rfl rfl)
theorem dX21_holds_28 : decode cX21_holds 28 = .ok (.lload_n 2, 1) := dk_32 (dk_at dksX21_holds_1 5 rfl rfl)
theorem dX21_holds_29 : decode cX21_holds 29 = .ok (.lload 4, 2) := dk_22 4 (dk_at dksX21_holds_1 6 rfl rfl)
theorem dX21_holds_31 : decode cX21_holds 31 = .ok (.lcmp, 1) := dk_148 (dk_at dksX21_holds_1 8 rfl rfl)
theorem dX21_holds_32 : decode cX21_holds 32 = .ok (.ifCond .ge 7, 3) := dk_156 0 7 (dk_at dksX21_holds_1 9 rfl rfl)
theorem dX21_holds_35 : decode cX21_holds 35 = .ok (.iconst 1, 1) := dk_4 (dk_at dksX21_holds_1 12 rfl rfl)
theorem dX21_holds_36 : decode cX21_holds 36 = .ok (.goto 43, 3) := dk_167 0 43 (dk_at dksX21_holds_1 13 rfl rfl)
theorem dX21_holds_39 : decode cX21_holds 39 = .ok (.iconst 0, 1) := dk_3 (dk_at dksX21_holds_1 16 rfl rfl)
theorem dX21_holds_40 : decode cX21_holds 40 = .ok (.goto 39, 3) := dk_167 0 39 (dk_at dksX21_holds_1 17 rfl rfl)
theorem dX21_holds_43 : decode cX21_holds 43 = .ok (.aload_n 0, 1) := dk_42 (dk_at dksX21_holds_1 20 rfl rfl)
theorem dX21_holds_44 : decode cX21_holds 44 = .ok (.getfield 13, 3) := dk_180 0 13 (dk_at dksX21_holds_1 21 rfl rfl)
theorem dX21_holds_47 : decode cX21_holds 47 = .ok (.bipush 62, 2) := dk_16 62 (dk_at dksX21_holds_2 0 rfl rfl)
theorem dX21_holds_49 : decode cX21_holds 49 = .ok (.if_icmp .ne 18, 3) := dk_160 0 18 (dk_at dksX21_holds_2 2 rfl rfl)
theorem dX21_holds_52 : decode cX21_holds 52 = .ok (.lload_n 2, 1) := dk_32 (dk_at dksX21_holds_2 5 rfl rfl)
theorem dX21_holds_53 : decode cX21_holds 53 = .ok (.lload 4, 2) := dk_22 4 (dk_at dksX21_holds_2 6 rfl rfl)
theorem dX21_holds_55 : decode cX21_holds 55 = .ok (.lcmp, 1) := dk_148 (dk_at dksX21_holds_2 8 rfl rfl)
theorem dX21_holds_56 : decode cX21_holds 56 = .ok (.ifCond .le 7, 3) := dk_158 0 7 (dk_at dksX21_holds_2 9 rfl rfl)
theorem dX21_holds_59 : decode cX21_holds 59 = .ok (.iconst 1, 1) := dk_4 (dk_at dksX21_holds_2 12 rfl rfl)
theorem dX21_holds_60 : decode cX21_holds 60 = .ok (.goto 19, 3) := dk_167 0 19 (dk_at dksX21_holds_2 13 rfl rfl)
theorem dX21_holds_63 : decode cX21_holds 63 = .ok (.iconst 0, 1) := dk_3 (dk_at dksX21_holds_2 16 rfl rfl)
theorem dX21_holds_64 : decode cX21_holds 64 = .ok (.goto 15, 3) := dk_167 0 15 (dk_at dksX21_holds_2 17 rfl rfl)
theorem dX21_holds_67 : decode cX21_holds 67 = .ok (.lload_n 2, 1) := dk_32 (dk_at dksX21_holds_2 20 rfl rfl)
theorem dX21_holds_68 : decode cX21_holds 68 = .ok (.lload 4, 2) := dk_22 4 (dk_at dksX21_holds_2 21 rfl rfl)
theorem dX21_holds_70 : decode cX21_holds 70 = .ok (.lcmp, 1) := dk_148 (dk_at dksX21_holds_2 23 rfl rfl)
theorem dX21_holds_71 : decode cX21_holds 71 = .ok (.ifCond .ne 7, 3) := dk_154 0 7 (dk_at dksX21_holds_3 0 rfl rfl)
theorem dX21_holds_74 : decode cX21_holds 74 = .ok (.iconst 1, 1) := dk_4 (dk_at dksX21_holds_3 3 rfl rfl)
theorem dX21_holds_75 : decode cX21_holds 75 = .ok (.goto 4, 3) := dk_167 0 4 (dk_at dksX21_holds_3 4 rfl rfl)
theorem dX21_holds_78 : decode cX21_holds 78 = .ok (.iconst 0, 1) := dk_3 (dk_at dksX21_holds_3 7 rfl rfl)
theorem dX21_holds_79 : decode cX21_holds 79 = .ok (.ireturn, 1) := dk_172 (dk_at dksX21_holds_3 8 rfl rfl)
theorem q196 : (Jvm.Cond.initialized "MendedThings$Than") ∈ lw_all := lw_g (lw_at lw_m1 39 rfl) rfl
theorem q902 : (Jvm.Cond.selects "MendedThings$Than" ({ cls := "java/lang/Object", name := "getClass", desc := "()Ljava/lang/Class;" } : Jvm.MethodName) ({ cls := "java/lang/Object", name := "getClass", desc := "()Ljava/lang/Class;" } : Jvm.MethodName)) ∈ lw_all := lw_g (lw_at lw_m4 25 rfl) rfl
theorem q1196 : (Jvm.Cond.instantiable "MendedThings$Than" (3 : Nat)) ∈ lw_all := lw_g (lw_at lw_m5 79 rfl) rfl
theorem q1198 : (Jvm.Cond.instanceMethod ({ cls := "MendedThings$Than", name := "<init>", desc := "(LMendedThings$Value;ILMendedThings$Value;)V" } : Jvm.MethodName)) ∈ lw_all := lw_g (lw_at lw_m5 81 rfl) rfl
theorem q1199 : (Jvm.Cond.code ({ cls := "MendedThings$Than", name := "<init>", desc := "(LMendedThings$Value;ILMendedThings$Value;)V" } : Jvm.MethodName) prog_19_method_1_code (4 : Nat) (Option.none : Option Jvm.ClassFile.FieldType)) ∈ lw_all := lw_g (lw_at lw_m5 82 rfl) rfl
theorem q1200 : (Jvm.Cond.methodLinkNest "MendedThings$Than" (1 : Nat) ({ cls := "MendedThings$Test", name := "<init>", desc := "()V" } : Jvm.MethodName) "MendedThings") ∈ lw_tbl := lw_at lw_m5 83 rfl
theorem q1201 : (Jvm.Cond.fieldLink "MendedThings$Than" (7 : Nat) "MendedThings$Than" "a" "LMendedThings$Value;") ∈ lw_all := lw_g (lw_at lw_m5 84 rfl) rfl
theorem q1202 : (Jvm.Cond.fieldLink "MendedThings$Than" (17 : Nat) "MendedThings$Than" "b" "LMendedThings$Value;") ∈ lw_all := lw_g (lw_at lw_m5 85 rfl) rfl
theorem q1203 : (Jvm.Cond.fieldLink "MendedThings$Than" (13 : Nat) "MendedThings$Than" "sign" "I") ∈ lw_all := lw_g (lw_at lw_m5 86 rfl) rfl
theorem q1204 : (Jvm.Cond.laysFinal "MendedThings$Than" "MendedThings$Than" "a" "LMendedThings$Value;") ∈ lw_all := lw_g (lw_at lw_m5 87 rfl) rfl
theorem q1205 : (Jvm.Cond.soleField "MendedThings$Than" "a") ∈ lw_all := lw_g (lw_at lw_m5 88 rfl) rfl
theorem q1206 : (Jvm.Cond.laysFinal "MendedThings$Than" "MendedThings$Than" "b" "LMendedThings$Value;") ∈ lw_all := lw_g (lw_at lw_m5 89 rfl) rfl
theorem q1207 : (Jvm.Cond.soleField "MendedThings$Than" "b") ∈ lw_all := lw_g (lw_at lw_m5 90 rfl) rfl
theorem q1208 : (Jvm.Cond.laysFinal "MendedThings$Than" "MendedThings$Than" "sign" "I") ∈ lw_all := lw_g (lw_at lw_m5 91 rfl) rfl
theorem q1209 : (Jvm.Cond.soleField "MendedThings$Than" "sign") ∈ lw_all := lw_g (lw_at lw_m5 92 rfl) rfl
theorem q1210 : (Jvm.Cond.superclass "MendedThings$Than" "MendedThings$Test") ∈ lw_all := lw_g (lw_at lw_m5 93 rfl) rfl
theorem q1315 : (Jvm.Cond.instanceMethod ({ cls := "MendedThings$Than", name := "holds", desc := "(LMendedThings$Moment;)Z" } : Jvm.MethodName)) ∈ lw_all := lw_g (lw_at lw_m5 198 rfl) rfl
theorem q1316 : (Jvm.Cond.code ({ cls := "MendedThings$Than", name := "holds", desc := "(LMendedThings$Moment;)Z" } : Jvm.MethodName) prog_19_method_2_code (6 : Nat) (Option.some Jvm.ClassFile.FieldType.boolean)) ∈ lw_all := lw_g (lw_at lw_m5 199 rfl) rfl
theorem q1317 : (Jvm.Cond.methodLink "MendedThings$Than" (20 : Nat) ({ cls := "MendedThings$Value", name := "at", desc := "(LMendedThings$Moment;)J" } : Jvm.MethodName)) ∈ lw_all := lw_g (lw_at lw_m5 200 rfl) rfl
theorem q1383 : (Jvm.Cond.selects "MendedThings$Than" ({ cls := "MendedThings$Test", name := "holds", desc := "(LMendedThings$Moment;)Z" } : Jvm.MethodName) ({ cls := "MendedThings$Than", name := "holds", desc := "(LMendedThings$Moment;)Z" } : Jvm.MethodName)) ∈ lw_all := lw_g (lw_at lw_m6 26 rfl) rfl
theorem q2579 : (Jvm.Cond.castable "MendedThings$Than" "MendedThings$Test") ∈ lw_tbl := lw_at lw_m11 22 rfl
theorem q2607 : (Jvm.Cond.castable "MendedThings$Than" "java/lang/Object") ∈ lw_tbl := lw_at lw_m11 50 rfl
theorem in_X21 : ∀ w ∈ wsX210, w ∈ lw_all := lw_in wsX210 [1204, 1206, 1208] (by decide +kernel) (by decide +kernel)
/-! MendedThings$Question -/
set_option maxRecDepth 100000
def RX22 : String := "MendedThings$Question"
def TX22 : u_T := fun k => match k with
  | 0 => ("MendedThings$Question", "what", "I", true)
  | 1 => ("MendedThings$Question", "test", "LMendedThings$Test;", true)
  | 2 => ("MendedThings$Question", "sum", "LMendedThings$Value;", true)
  | 3 => ("MendedThings$Question", "found", "J", false)
  | _ => ("MendedThings$Question", "has", "Z", false)
def tyX22 : Nat → FieldType := fun k => match k with
  | 0 => .int
  | 1 => .object "MendedThings$Test"
  | 2 => .object "MendedThings$Value"
  | 3 => .long
  | _ => .boolean
abbrev wsX220 : List Cond := u_ws RX22 TX22 5
theorem nmX22 : ∀ a, a < 5 → ∀ b, b < 5 → a ≠ b → (TX22 a).2.1 ≠ (TX22 b).2.1 := by decide +kernel
theorem tyX22_ok : ∀ k, k < 5 → parseFieldDescriptor (TX22 k).2.2.1 = some (tyX22 k) := by decide +kernel
abbrev cX22_init : ByteArray := prog_15_method_1_code
def yX22_init : MethodName := ⟨RX22, "<init>", "(ILMendedThings$Test;LMendedThings$Value;)V"⟩
def dkwX22_init_1 : List UInt8 := [181, 0, 25, 177]
abbrev dktX22_init_1 : List UInt8 := dkwX22_init_1 ++ []
def dkwX22_init_0 : List UInt8 := [42, 183, 0, 3, 42, 20, 0, 9, 181, 0, 11, 42, 27, 181, 0, 17, 42, 44, 181, 0, 21, 42, 45]
abbrev dktX22_init_0 : List UInt8 := dkwX22_init_0 ++ dktX22_init_1
theorem dksX22_init_0 : cX22_init.data.toList.drop 0 = dktX22_init_0 := by decide +kernel
theorem dksX22_init_1 : cX22_init.data.toList.drop 23 = dktX22_init_1 := dk_seg dksX22_init_0 23 rfl rfl
theorem dX22_init_0 : decode cX22_init 0 = .ok (.aload_n 0, 1) := dk_42 (dk_at dksX22_init_0 0 rfl rfl)
theorem dX22_init_1 : decode cX22_init 1 = .ok (.invokespecial 3, 3) := dk_183 0 3 (dk_at dksX22_init_0 1 rfl rfl)
theorem dX22_init_4 : decode cX22_init 4 = .ok (.aload_n 0, 1) := dk_42 (dk_at dksX22_init_0 4 rfl rfl)
theorem dX22_init_5 : decode cX22_init 5 = .ok (.ldc2_w 9, 3) := dk_20 0 9 (dk_at dksX22_init_0 5 rfl rfl)
theorem dX22_init_8 : decode cX22_init 8 = .ok (.putfield 11, 3) := dk_181 0 11 (dk_at dksX22_init_0 8 rfl rfl)
theorem dX22_init_11 : decode cX22_init 11 = .ok (.aload_n 0, 1) := dk_42 (dk_at dksX22_init_0 11 rfl rfl)
theorem dX22_init_12 : decode cX22_init 12 = .ok (.iload_n 1, 1) := dk_27 (dk_at dksX22_init_0 12 rfl rfl)
theorem dX22_init_13 : decode cX22_init 13 = .ok (.putfield 17, 3) := dk_181 0 17 (dk_at dksX22_init_0 13 rfl rfl)
theorem dX22_init_16 : decode cX22_init 16 = .ok (.aload_n 0, 1) := dk_42 (dk_at dksX22_init_0 16 rfl rfl)
theorem dX22_init_17 : decode cX22_init 17 = .ok (.aload_n 2, 1) := dk_44 (dk_at dksX22_init_0 17 rfl rfl)
theorem dX22_init_18 : decode cX22_init 18 = .ok (.putfield 21, 3) := dk_181 0 21 (dk_at dksX22_init_0 18 rfl rfl)
theorem dX22_init_21 : decode cX22_init 21 = .ok (.aload_n 0, 1) := dk_42 (dk_at dksX22_init_0 21 rfl rfl)
theorem dX22_init_22 : decode cX22_init 22 = .ok (.aload_n 3, 1) := dk_45 (dk_at dksX22_init_0 22 rfl rfl)
theorem dX22_init_23 : decode cX22_init 23 = .ok (.putfield 25, 3) := dk_181 0 25 (dk_at dksX22_init_1 0 rfl rfl)
theorem dX22_init_26 : decode cX22_init 26 = .ok (.return_, 1) := dk_177 (dk_at dksX22_init_1 3 rfl rfl)
abbrev cX22_meets : ByteArray := prog_15_method_2_code
def yX22_meets : MethodName := ⟨RX22, "meets", "(ILMendedThings$Moment;)V"⟩
def dkwX22_meets_6 : List UInt8 := [181, 0, 11, 42, 4, 181, 0, 41, 177]
abbrev dktX22_meets_6 : List UInt8 := dkwX22_meets_6 ++ []
def dkwX22_meets_5 : List UInt8 := [7, 160, 0, 14, 42, 180, 0, 11, 33, 184, 0, 35, 167, 0, 11, 42, 180, 0, 11, 33, 184, 0, 51]
abbrev dktX22_meets_5 : List UInt8 := dkwX22_meets_5 ++ dktX22_meets_6
def dkwX22_meets_4 : List UInt8 := [167, 0, 47, 42, 180, 0, 17, 6, 160, 0, 12, 42, 180, 0, 11, 33, 97, 167, 0, 30, 42, 180, 0, 17]
abbrev dktX22_meets_4 : List UInt8 := dkwX22_meets_4 ++ dktX22_meets_5
def dkwX22_meets_3 : List UInt8 := [181, 0, 41, 177, 42, 180, 0, 25, 44, 182, 0, 45, 66, 42, 42, 180, 0, 41, 154, 0, 7, 33]
abbrev dktX22_meets_3 : List UInt8 := dkwX22_meets_3 ++ dktX22_meets_4
def dkwX22_meets_2 : List UInt8 := [154, 0, 17, 42, 180, 0, 41, 153, 0, 10, 42, 180, 0, 11, 167, 0, 5, 27, 133, 181, 0, 11, 42, 4]
abbrev dktX22_meets_2 : List UInt8 := dkwX22_meets_2 ++ dktX22_meets_3
def dkwX22_meets_1 : List UInt8 := [180, 0, 17, 5, 160, 0, 16, 9, 42, 180, 0, 11, 184, 0, 35, 10, 97, 167, 0, 26, 42, 180, 0, 17]
abbrev dktX22_meets_1 : List UInt8 := dkwX22_meets_1 ++ dktX22_meets_2
def dkwX22_meets_0 : List UInt8 := [42, 180, 0, 17, 6, 162, 0, 69, 42, 180, 0, 21, 44, 182, 0, 29, 154, 0, 4, 177, 42, 42]
abbrev dktX22_meets_0 : List UInt8 := dkwX22_meets_0 ++ dktX22_meets_1
theorem dksX22_meets_0 : cX22_meets.data.toList.drop 0 = dktX22_meets_0 := by decide +kernel
theorem dksX22_meets_1 : cX22_meets.data.toList.drop 22 = dktX22_meets_1 := dk_seg dksX22_meets_0 22 rfl rfl
theorem dksX22_meets_2 : cX22_meets.data.toList.drop 46 = dktX22_meets_2 := dk_seg dksX22_meets_1 24 rfl rfl
theorem dksX22_meets_3 : cX22_meets.data.toList.drop 70 = dktX22_meets_3 := dk_seg dksX22_meets_2 24 rfl rfl
theorem dksX22_meets_4 : cX22_meets.data.toList.drop 92 = dktX22_meets_4 := dk_seg dksX22_meets_3 22 rfl rfl
theorem dksX22_meets_5 : cX22_meets.data.toList.drop 116 = dktX22_meets_5 := dk_seg dksX22_meets_4 24 rfl rfl
theorem dksX22_meets_6 : cX22_meets.data.toList.drop 139 = dktX22_meets_6 := dk_seg dksX22_meets_5 23 rfl rfl
theorem dX22_meets_0 : decode cX22_meets 0 = .ok (.aload_n 0, 1) := dk_42 (dk_at dksX22_meets_0 0 rfl rfl)
theorem dX22_meets_1 : decode cX22_meets 1 = .ok (.getfield 17, 3) := dk_180 0 17 (dk_at dksX22_meets_0 1 rfl rfl)
theorem dX22_meets_4 : decode cX22_meets 4 = .ok (.iconst 3, 1) := dk_6 (dk_at dksX22_meets_0 4 rfl rfl)
theorem dX22_meets_5 : decode cX22_meets 5 = .ok (.if_icmp .ge 69, 3) := dk_162 0 69 (dk_at dksX22_meets_0 5 rfl rfl)
theorem dX22_meets_8 : decode cX22_meets 8 = .ok (.aload_n 0, 1) := dk_42 (dk_at dksX22_meets_0 8 rfl rfl)
theorem dX22_meets_9 : decode cX22_meets 9 = .ok (.getfield 21, 3) := dk_180 0 21 (dk_at dksX22_meets_0 9 rfl rfl)
theorem dX22_meets_12 : decode cX22_meets 12 = .ok (.aload_n 2, 1) := dk_44 (dk_at dksX22_meets_0 12 rfl rfl)
theorem dX22_meets_13 : decode cX22_meets 13 = .ok (.invokevirtual 29, 3) := dk_182 0 29 (dk_at dksX22_meets_0 13 rfl rfl)
theorem dX22_meets_16 : decode cX22_meets 16 = .ok (.ifCond .ne 4, 3) := dk_154 0 4 (dk_at dksX22_meets_0 16 rfl rfl)
theorem dX22_meets_19 : decode cX22_meets 19 = .ok (.return_, 1) := dk_177 (dk_at dksX22_meets_0 19 rfl rfl)
theorem dX22_meets_20 : decode cX22_meets 20 = .ok (.aload_n 0, 1) := dk_42 (dk_at dksX22_meets_0 20 rfl rfl)
theorem dX22_meets_21 : decode cX22_meets 21 = .ok (.aload_n 0, 1) := dk_42 (dk_at dksX22_meets_0 21 rfl rfl)
theorem dX22_meets_22 : decode cX22_meets 22 = .ok (.getfield 17, 3) := dk_180 0 17 (dk_at dksX22_meets_1 0 rfl rfl)
theorem dX22_meets_25 : decode cX22_meets 25 = .ok (.iconst 2, 1) := dk_5 (dk_at dksX22_meets_1 3 rfl rfl)
theorem dX22_meets_26 : decode cX22_meets 26 = .ok (.if_icmp .ne 16, 3) := dk_160 0 16 (dk_at dksX22_meets_1 4 rfl rfl)
theorem dX22_meets_29 : decode cX22_meets 29 = .ok (.lconst 0, 1) := dk_9 (dk_at dksX22_meets_1 7 rfl rfl)
theorem dX22_meets_30 : decode cX22_meets 30 = .ok (.aload_n 0, 1) := dk_42 (dk_at dksX22_meets_1 8 rfl rfl)
theorem dX22_meets_31 : decode cX22_meets 31 = .ok (.getfield 11, 3) := dk_180 0 11 (dk_at dksX22_meets_1 9 rfl rfl)
theorem dX22_meets_34 : decode cX22_meets 34 = .ok (.invokestatic 35, 3) := dk_184 0 35 (dk_at dksX22_meets_1 12 rfl rfl)
theorem dX22_meets_37 : decode cX22_meets 37 = .ok (.lconst 1, 1) := dk_10 (dk_at dksX22_meets_1 15 rfl rfl)
theorem dX22_meets_38 : decode cX22_meets 38 = .ok (.ladd, 1) := dk_97 (dk_at dksX22_meets_1 16 rfl rfl)
theorem dX22_meets_39 : decode cX22_meets 39 = .ok (.goto 26, 3) := dk_167 0 26 (dk_at dksX22_meets_1 17 rfl rfl)
theorem dX22_meets_42 : decode cX22_meets 42 = .ok (.aload_n 0, 1) := dk_42 (dk_at dksX22_meets_1 20 rfl rfl)
theorem dX22_meets_43 : decode cX22_meets 43 = .ok (.getfield 17, 3) := dk_180 0 17 (dk_at dksX22_meets_1 21 rfl rfl)
theorem dX22_meets_46 : decode cX22_meets 46 = .ok (.ifCond .ne 17, 3) := dk_154 0 17 (dk_at dksX22_meets_2 0 rfl rfl)
theorem dX22_meets_49 : decode cX22_meets 49 = .ok (.aload_n 0, 1) := dk_42 (dk_at dksX22_meets_2 3 rfl rfl)
theorem dX22_meets_50 : decode cX22_meets 50 = .ok (.getfield 41, 3) := dk_180 0 41 (dk_at dksX22_meets_2 4 rfl rfl)
theorem dX22_meets_53 : decode cX22_meets 53 = .ok (.ifCond .eq 10, 3) := dk_153 0 10 (dk_at dksX22_meets_2 7 rfl rfl)
theorem dX22_meets_56 : decode cX22_meets 56 = .ok (.aload_n 0, 1) := dk_42 (dk_at dksX22_meets_2 10 rfl rfl)
theorem dX22_meets_57 : decode cX22_meets 57 = .ok (.getfield 11, 3) := dk_180 0 11 (dk_at dksX22_meets_2 11 rfl rfl)
theorem dX22_meets_60 : decode cX22_meets 60 = .ok (.goto 5, 3) := dk_167 0 5 (dk_at dksX22_meets_2 14 rfl rfl)
theorem dX22_meets_63 : decode cX22_meets 63 = .ok (.iload_n 1, 1) := dk_27 (dk_at dksX22_meets_2 17 rfl rfl)
theorem dX22_meets_64 : decode cX22_meets 64 = .ok (.i2l, 1) := dk_133 (dk_at dksX22_meets_2 18 rfl rfl)
theorem dX22_meets_65 : decode cX22_meets 65 = .ok (.putfield 11, 3) := dk_181 0 11 (dk_at dksX22_meets_2 19 rfl rfl)
theorem dX22_meets_68 : decode cX22_meets 68 = .ok (.aload_n 0, 1) := dk_42 (dk_at dksX22_meets_2 22 rfl rfl)
theorem dX22_meets_69 : decode cX22_meets 69 = .ok (.iconst 1, 1) := dk_4 (dk_at dksX22_meets_2 23 rfl rfl)
theorem dX22_meets_70 : decode cX22_meets 70 = .ok (.putfield 41, 3) := dk_181 0 41 (dk_at dksX22_meets_3 0 rfl rfl)
theorem dX22_meets_73 : decode cX22_meets 73 = .ok (.return_, 1) := dk_177 (dk_at dksX22_meets_3 3 rfl rfl)
theorem dX22_meets_74 : decode cX22_meets 74 = .ok (.aload_n 0, 1) := dk_42 (dk_at dksX22_meets_3 4 rfl rfl)
theorem dX22_meets_75 : decode cX22_meets 75 = .ok (.getfield 25, 3) := dk_180 0 25 (dk_at dksX22_meets_3 5 rfl rfl)
theorem dX22_meets_78 : decode cX22_meets 78 = .ok (.aload_n 2, 1) := dk_44 (dk_at dksX22_meets_3 8 rfl rfl)
theorem dX22_meets_79 : decode cX22_meets 79 = .ok (.invokevirtual 45, 3) := dk_182 0 45 (dk_at dksX22_meets_3 9 rfl rfl)
theorem dX22_meets_82 : decode cX22_meets 82 = .ok (.lstore_n 3, 1) := dk_66 (dk_at dksX22_meets_3 12 rfl rfl)
theorem dX22_meets_83 : decode cX22_meets 83 = .ok (.aload_n 0, 1) := dk_42 (dk_at dksX22_meets_3 13 rfl rfl)
theorem dX22_meets_84 : decode cX22_meets 84 = .ok (.aload_n 0, 1) := dk_42 (dk_at dksX22_meets_3 14 rfl rfl)
theorem dX22_meets_85 : decode cX22_meets 85 = .ok (.getfield 41, 3) := dk_180 0 41 (dk_at dksX22_meets_3 15 rfl rfl)
theorem dX22_meets_88 : decode cX22_meets 88 = .ok (.ifCond .ne 7, 3) := dk_154 0 7 (dk_at dksX22_meets_3 18 rfl rfl)
theorem dX22_meets_91 : decode cX22_meets 91 = .ok (.lload_n 3, 1) := dk_33 (dk_at dksX22_meets_3 21 rfl rfl)
theorem dX22_meets_92 : decode cX22_meets 92 = .ok (.goto 47, 3) := dk_167 0 47 (dk_at dksX22_meets_4 0 rfl rfl)
theorem dX22_meets_95 : decode cX22_meets 95 = .ok (.aload_n 0, 1) := dk_42 (dk_at dksX22_meets_4 3 rfl rfl)
theorem dX22_meets_96 : decode cX22_meets 96 = .ok (.getfield 17, 3) := dk_180 0 17 (dk_at dksX22_meets_4 4 rfl rfl)
theorem dX22_meets_99 : decode cX22_meets 99 = .ok (.iconst 3, 1) := dk_6 (dk_at dksX22_meets_4 7 rfl rfl)
theorem dX22_meets_100 : decode cX22_meets 100 = .ok (.if_icmp .ne 12, 3) := dk_160 0 12 (dk_at dksX22_meets_4 8 rfl rfl)
theorem dX22_meets_103 : decode cX22_meets 103 = .ok (.aload_n 0, 1) := dk_42 (dk_at dksX22_meets_4 11 rfl rfl)
theorem dX22_meets_104 : decode cX22_meets 104 = .ok (.getfield 11, 3) := dk_180 0 11 (dk_at dksX22_meets_4 12 rfl rfl)
theorem dX22_meets_107 : decode cX22_meets 107 = .ok (.lload_n 3, 1) := dk_33 (dk_at dksX22_meets_4 15 rfl rfl)
theorem dX22_meets_108 : decode cX22_meets 108 = .ok (.ladd, 1) := dk_97 (dk_at dksX22_meets_4 16 rfl rfl)
theorem dX22_meets_109 : decode cX22_meets 109 = .ok (.goto 30, 3) := dk_167 0 30 (dk_at dksX22_meets_4 17 rfl rfl)
theorem dX22_meets_112 : decode cX22_meets 112 = .ok (.aload_n 0, 1) := dk_42 (dk_at dksX22_meets_4 20 rfl rfl)
theorem dX22_meets_113 : decode cX22_meets 113 = .ok (.getfield 17, 3) := dk_180 0 17 (dk_at dksX22_meets_4 21 rfl rfl)
theorem dX22_meets_116 : decode cX22_meets 116 = .ok (.iconst 4, 1) := dk_7 (dk_at dksX22_meets_5 0 rfl rfl)
theorem dX22_meets_117 : decode cX22_meets 117 = .ok (.if_icmp .ne 14, 3) := dk_160 0 14 (dk_at dksX22_meets_5 1 rfl rfl)
theorem dX22_meets_120 : decode cX22_meets 120 = .ok (.aload_n 0, 1) := dk_42 (dk_at dksX22_meets_5 4 rfl rfl)
theorem dX22_meets_121 : decode cX22_meets 121 = .ok (.getfield 11, 3) := dk_180 0 11 (dk_at dksX22_meets_5 5 rfl rfl)
theorem dX22_meets_124 : decode cX22_meets 124 = .ok (.lload_n 3, 1) := dk_33 (dk_at dksX22_meets_5 8 rfl rfl)
theorem dX22_meets_125 : decode cX22_meets 125 = .ok (.invokestatic 35, 3) := dk_184 0 35 (dk_at dksX22_meets_5 9 rfl rfl)
theorem dX22_meets_128 : decode cX22_meets 128 = .ok (.goto 11, 3) := dk_167 0 11 (dk_at dksX22_meets_5 12 rfl rfl)
theorem dX22_meets_131 : decode cX22_meets 131 = .ok (.aload_n 0, 1) := dk_42 (dk_at dksX22_meets_5 15 rfl rfl)
theorem dX22_meets_132 : decode cX22_meets 132 = .ok (.getfield 11, 3) := dk_180 0 11 (dk_at dksX22_meets_5 16 rfl rfl)
theorem dX22_meets_135 : decode cX22_meets 135 = .ok (.lload_n 3, 1) := dk_33 (dk_at dksX22_meets_5 19 rfl rfl)
theorem dX22_meets_136 : decode cX22_meets 136 = .ok (.invokestatic 51, 3) := dk_184 0 51 (dk_at dksX22_meets_5 20 rfl rfl)
theorem dX22_meets_139 : decode cX22_meets 139 = .ok (.putfield 11, 3) := dk_181 0 11 (dk_at dksX22_meets_6 0 rfl rfl)
theorem dX22_meets_142 : decode cX22_meets 142 = .ok (.aload_n 0, 1) := dk_42 (dk_at dksX22_meets_6 3 rfl rfl)
theorem dX22_meets_143 : decode cX22_meets 143 = .ok (.iconst 1, 1) := dk_4 (dk_at dksX22_meets_6 4 rfl rfl)
theorem dX22_meets_144 : decode cX22_meets 144 = .ok (.putfield 41, 3) := dk_181 0 41 (dk_at dksX22_meets_6 5 rfl rfl)
theorem dX22_meets_147 : decode cX22_meets 147 = .ok (.return_, 1) := dk_177 (dk_at dksX22_meets_6 8 rfl rfl)
abbrev cX22_answer : ByteArray := prog_15_method_3_code
def yX22_answer : MethodName := ⟨RX22, "answer", "()J"⟩
def dkwX22_answer_0 : List UInt8 := [42, 180, 0, 41, 154, 0, 11, 42, 180, 0, 17, 5, 162, 0, 10, 42, 180, 0, 11, 167, 0, 4, 9, 173]
abbrev dktX22_answer_0 : List UInt8 := dkwX22_answer_0 ++ []
theorem dksX22_answer_0 : cX22_answer.data.toList.drop 0 = dktX22_answer_0 := by decide +kernel
theorem dX22_answer_0 : decode cX22_answer 0 = .ok (.aload_n 0, 1) := dk_42 (dk_at dksX22_answer_0 0 rfl rfl)
theorem dX22_answer_1 : decode cX22_answer 1 = .ok (.getfield 41, 3) := dk_180 0 41 (dk_at dksX22_answer_0 1 rfl rfl)
theorem dX22_answer_4 : decode cX22_answer 4 = .ok (.ifCond .ne 11, 3) := dk_154 0 11 (dk_at dksX22_answer_0 4 rfl rfl)
theorem dX22_answer_7 : decode cX22_answer 7 = .ok (.aload_n 0, 1) := dk_42 (dk_at dksX22_answer_0 7 rfl rfl)
theorem dX22_answer_8 : decode cX22_answer 8 = .ok (.getfield 17, 3) := dk_180 0 17 (dk_at dksX22_answer_0 8 rfl rfl)
theorem dX22_answer_11 : decode cX22_answer 11 = .ok (.iconst 2, 1) := dk_5 (dk_at dksX22_answer_0 11 rfl rfl)
theorem dX22_answer_12 : decode cX22_answer 12 = .ok (.if_icmp .ge 10, 3) := dk_162 0 10 (dk_at dksX22_answer_0 12 rfl rfl)
theorem dX22_answer_15 : decode cX22_answer 15 = .ok (.aload_n 0, 1) := dk_42 (dk_at dksX22_answer_0 15 rfl rfl)
theorem dX22_answer_16 : decode cX22_answer 16 = .ok (.getfield 11, 3) := dk_180 0 11 (dk_at dksX22_answer_0 16 rfl rfl)
theorem dX22_answer_19 : decode cX22_answer 19 = .ok (.goto 4, 3) := dk_167 0 4 (dk_at dksX22_answer_0 19 rfl rfl)
theorem dX22_answer_22 : decode cX22_answer 22 = .ok (.lconst 0, 1) := dk_9 (dk_at dksX22_answer_0 22 rfl rfl)
theorem dX22_answer_23 : decode cX22_answer 23 = .ok (.lreturn, 1) := dk_173 (dk_at dksX22_answer_0 23 rfl rfl)
theorem q198 : (Jvm.Cond.initialized "MendedThings$Question") ∈ lw_all := lw_g (lw_at lw_m1 41 rfl) rfl
theorem q899 : (Jvm.Cond.selects "MendedThings$Question" ({ cls := "java/lang/Object", name := "getClass", desc := "()Ljava/lang/Class;" } : Jvm.MethodName) ({ cls := "java/lang/Object", name := "getClass", desc := "()Ljava/lang/Class;" } : Jvm.MethodName)) ∈ lw_all := lw_g (lw_at lw_m4 22 rfl) rfl
theorem q1633 : (Jvm.Cond.instantiable "MendedThings$Question" (5 : Nat)) ∈ lw_all := lw_g (lw_at lw_m7 36 rfl) rfl
theorem q1635 : (Jvm.Cond.instanceMethod ({ cls := "MendedThings$Question", name := "<init>", desc := "(ILMendedThings$Test;LMendedThings$Value;)V" } : Jvm.MethodName)) ∈ lw_all := lw_g (lw_at lw_m7 38 rfl) rfl
theorem q1636 : (Jvm.Cond.code ({ cls := "MendedThings$Question", name := "<init>", desc := "(ILMendedThings$Test;LMendedThings$Value;)V" } : Jvm.MethodName) prog_15_method_1_code (4 : Nat) (Option.none : Option Jvm.ClassFile.FieldType)) ∈ lw_all := lw_g (lw_at lw_m7 39 rfl) rfl
theorem q1637 : (Jvm.Cond.methodLink "MendedThings$Question" (3 : Nat) ({ cls := "java/lang/Object", name := "<init>", desc := "()V" } : Jvm.MethodName)) ∈ lw_all := lw_g (lw_at lw_m7 40 rfl) rfl
theorem q1638 : (Jvm.Cond.constantLong "MendedThings$Question" (9 : Nat) (-1 : Int64)) ∈ lw_all := lw_g (lw_at lw_m7 41 rfl) rfl
theorem q1639 : (Jvm.Cond.fieldLink "MendedThings$Question" (17 : Nat) "MendedThings$Question" "what" "I") ∈ lw_all := lw_g (lw_at lw_m7 42 rfl) rfl
theorem q1640 : (Jvm.Cond.fieldLink "MendedThings$Question" (21 : Nat) "MendedThings$Question" "test" "LMendedThings$Test;") ∈ lw_all := lw_g (lw_at lw_m7 43 rfl) rfl
theorem q1641 : (Jvm.Cond.fieldLink "MendedThings$Question" (25 : Nat) "MendedThings$Question" "sum" "LMendedThings$Value;") ∈ lw_all := lw_g (lw_at lw_m7 44 rfl) rfl
theorem q1642 : (Jvm.Cond.fieldLink "MendedThings$Question" (11 : Nat) "MendedThings$Question" "found" "J") ∈ lw_all := lw_g (lw_at lw_m7 45 rfl) rfl
theorem q1643 : (Jvm.Cond.fieldLink "MendedThings$Question" (41 : Nat) "MendedThings$Question" "has" "Z") ∈ lw_all := lw_g (lw_at lw_m7 46 rfl) rfl
theorem q1644 : (Jvm.Cond.laysFinal "MendedThings$Question" "MendedThings$Question" "what" "I") ∈ lw_all := lw_g (lw_at lw_m7 47 rfl) rfl
theorem q1645 : (Jvm.Cond.soleField "MendedThings$Question" "what") ∈ lw_all := lw_g (lw_at lw_m7 48 rfl) rfl
theorem q1646 : (Jvm.Cond.laysFinal "MendedThings$Question" "MendedThings$Question" "test" "LMendedThings$Test;") ∈ lw_all := lw_g (lw_at lw_m7 49 rfl) rfl
theorem q1647 : (Jvm.Cond.soleField "MendedThings$Question" "test") ∈ lw_all := lw_g (lw_at lw_m7 50 rfl) rfl
theorem q1648 : (Jvm.Cond.laysFinal "MendedThings$Question" "MendedThings$Question" "sum" "LMendedThings$Value;") ∈ lw_all := lw_g (lw_at lw_m7 51 rfl) rfl
theorem q1649 : (Jvm.Cond.soleField "MendedThings$Question" "sum") ∈ lw_all := lw_g (lw_at lw_m7 52 rfl) rfl
theorem q1650 : (Jvm.Cond.lays "MendedThings$Question" "MendedThings$Question" "found" "J") ∈ lw_all := lw_g (lw_at lw_m7 53 rfl) rfl
theorem q1651 : (Jvm.Cond.soleField "MendedThings$Question" "found") ∈ lw_all := lw_g (lw_at lw_m7 54 rfl) rfl
theorem q1652 : (Jvm.Cond.lays "MendedThings$Question" "MendedThings$Question" "has" "Z") ∈ lw_all := lw_g (lw_at lw_m7 55 rfl) rfl
theorem q1653 : (Jvm.Cond.soleField "MendedThings$Question" "has") ∈ lw_all := lw_g (lw_at lw_m7 56 rfl) rfl
theorem q1654 : (Jvm.Cond.superclass "MendedThings$Question" "java/lang/Object") ∈ lw_all := lw_g (lw_at lw_m7 57 rfl) rfl
theorem q1656 : (Jvm.Cond.instanceMethod ({ cls := "MendedThings$Question", name := "meets", desc := "(ILMendedThings$Moment;)V" } : Jvm.MethodName)) ∈ lw_all := lw_g (lw_at lw_m7 59 rfl) rfl
theorem q1657 : (Jvm.Cond.selects "MendedThings$Question" ({ cls := "MendedThings$Question", name := "meets", desc := "(ILMendedThings$Moment;)V" } : Jvm.MethodName) ({ cls := "MendedThings$Question", name := "meets", desc := "(ILMendedThings$Moment;)V" } : Jvm.MethodName)) ∈ lw_all := lw_g (lw_at lw_m7 60 rfl) rfl
theorem q1658 : (Jvm.Cond.code ({ cls := "MendedThings$Question", name := "meets", desc := "(ILMendedThings$Moment;)V" } : Jvm.MethodName) prog_15_method_2_code (5 : Nat) (Option.none : Option Jvm.ClassFile.FieldType)) ∈ lw_all := lw_g (lw_at lw_m7 61 rfl) rfl
theorem q1659 : (Jvm.Cond.methodLink "MendedThings$Question" (29 : Nat) ({ cls := "MendedThings$Test", name := "holds", desc := "(LMendedThings$Moment;)Z" } : Jvm.MethodName)) ∈ lw_all := lw_g (lw_at lw_m7 62 rfl) rfl
theorem q1660 : (Jvm.Cond.methodLink "MendedThings$Question" (35 : Nat) ({ cls := "java/lang/Math", name := "max", desc := "(JJ)J" } : Jvm.MethodName)) ∈ lw_all := lw_g (lw_at lw_m7 63 rfl) rfl
theorem q1661 : (Jvm.Cond.methodLink "MendedThings$Question" (45 : Nat) ({ cls := "MendedThings$Value", name := "at", desc := "(LMendedThings$Moment;)J" } : Jvm.MethodName)) ∈ lw_all := lw_g (lw_at lw_m7 64 rfl) rfl
theorem q1662 : (Jvm.Cond.methodLink "MendedThings$Question" (51 : Nat) ({ cls := "java/lang/Math", name := "min", desc := "(JJ)J" } : Jvm.MethodName)) ∈ lw_all := lw_g (lw_at lw_m7 65 rfl) rfl
theorem q1664 : (Jvm.Cond.instanceMethod ({ cls := "MendedThings$Question", name := "answer", desc := "()J" } : Jvm.MethodName)) ∈ lw_all := lw_g (lw_at lw_m7 67 rfl) rfl
theorem q1665 : (Jvm.Cond.selects "MendedThings$Question" ({ cls := "MendedThings$Question", name := "answer", desc := "()J" } : Jvm.MethodName) ({ cls := "MendedThings$Question", name := "answer", desc := "()J" } : Jvm.MethodName)) ∈ lw_all := lw_g (lw_at lw_m7 68 rfl) rfl
theorem q1666 : (Jvm.Cond.code ({ cls := "MendedThings$Question", name := "answer", desc := "()J" } : Jvm.MethodName) prog_15_method_3_code (1 : Nat) (Option.some Jvm.ClassFile.FieldType.long)) ∈ lw_all := lw_g (lw_at lw_m7 69 rfl) rfl
theorem q2608 : (Jvm.Cond.castable "MendedThings$Question" "java/lang/Object") ∈ lw_tbl := lw_at lw_m11 51 rfl
theorem in_X22 : ∀ w ∈ wsX220, w ∈ lw_all := lw_in wsX220 [1644, 1646, 1648, 1650, 1652] (by decide +kernel) (by decide +kernel)
/-! MendedThings$Fault -/
set_option maxRecDepth 100000
def RX3 : String := "MendedThings$Fault"
def TX3 : u_T := fun k => match k with
  | 0 => ("java/lang/Throwable", "cause", "Ljava/lang/Throwable;", false)
  | 1 => ("java/lang/Throwable", "stackTrace", "[Ljava/lang/StackTraceElement;", false)
  | 2 => ("java/lang/Throwable", "suppressedExceptions", "Ljava/util/List;", false)
  | 3 => ("java/lang/Throwable", "detailMessage", "Ljava/lang/String;", false)
  | 4 => ("java/lang/Throwable", "backtrace", "Ljava/lang/Object;", false)
  | 5 => ("java/lang/Throwable", "depth", "I", false)
  | 6 => ("MendedThings$Fault", "kind", "I", false)
  | _ => ("MendedThings$Fault", "place", "I", false)
def tyX3 : Nat → FieldType := fun k => match k with
  | 0 => .object "java/lang/Throwable"
  | 1 => .array (.object "java/lang/StackTraceElement")
  | 2 => .object "java/util/List"
  | 3 => .object "java/lang/String"
  | 4 => .object "java/lang/Object"
  | 5 => .int
  | 6 => .int
  | _ => .int
abbrev wsX30 : List Cond := u_ws RX3 TX3 8
theorem nmX3 : ∀ a, a < 8 → ∀ b, b < 8 → a ≠ b → (TX3 a).2.1 ≠ (TX3 b).2.1 := by decide +kernel
theorem tyX3_ok : ∀ k, k < 8 → parseFieldDescriptor (TX3 k).2.2.1 = some (tyX3 k) := by decide +kernel
abbrev cX3_init : ByteArray := prog_6_method_1_code
def yX3_init : MethodName := ⟨RX3, "<init>", "()V"⟩
def dkwX3_init_0 : List UInt8 := [42, 1, 1, 3, 3, 183, 0, 1, 177]
abbrev dktX3_init_0 : List UInt8 := dkwX3_init_0 ++ []
theorem dksX3_init_0 : cX3_init.data.toList.drop 0 = dktX3_init_0 := by decide +kernel
theorem dX3_init_0 : decode cX3_init 0 = .ok (.aload_n 0, 1) := dk_42 (dk_at dksX3_init_0 0 rfl rfl)
theorem dX3_init_1 : decode cX3_init 1 = .ok (.aconst_null, 1) := dk_1 (dk_at dksX3_init_0 1 rfl rfl)
theorem dX3_init_2 : decode cX3_init 2 = .ok (.aconst_null, 1) := dk_1 (dk_at dksX3_init_0 2 rfl rfl)
theorem dX3_init_3 : decode cX3_init 3 = .ok (.iconst 0, 1) := dk_3 (dk_at dksX3_init_0 3 rfl rfl)
theorem dX3_init_4 : decode cX3_init 4 = .ok (.iconst 0, 1) := dk_3 (dk_at dksX3_init_0 4 rfl rfl)
theorem dX3_init_5 : decode cX3_init 5 = .ok (.invokespecial 1, 3) := dk_183 0 1 (dk_at dksX3_init_0 5 rfl rfl)
theorem dX3_init_8 : decode cX3_init 8 = .ok (.return_, 1) := dk_177 (dk_at dksX3_init_0 8 rfl rfl)
theorem q167 : (Jvm.Cond.initialized "MendedThings$Fault") ∈ lw_all := lw_g (lw_at lw_m1 10 rfl) rfl
theorem q292 : (Jvm.Cond.instantiable "MendedThings$Fault" (8 : Nat)) ∈ lw_all := lw_g (lw_at lw_m1 135 rfl) rfl
theorem q293 : (Jvm.Cond.castable "MendedThings$Fault" "MendedThings$Fault") ∈ lw_tbl := lw_at lw_m1 136 rfl
theorem q300 : (Jvm.Cond.selects "MendedThings$Fault" ({ cls := "java/lang/Throwable", name := "fillInStackTrace", desc := "(I)Ljava/lang/Throwable;" } : Jvm.MethodName) ({ cls := "java/lang/Throwable", name := "fillInStackTrace", desc := "(I)Ljava/lang/Throwable;" } : Jvm.MethodName)) ∈ lw_all := lw_g (lw_at lw_m1 143 rfl) rfl
theorem q301 : (Jvm.Cond.selects "MendedThings$Fault" ({ cls := "java/lang/Throwable", name := "fillInStackTrace", desc := "()Ljava/lang/Throwable;" } : Jvm.MethodName) ({ cls := "java/lang/Throwable", name := "fillInStackTrace", desc := "()Ljava/lang/Throwable;" } : Jvm.MethodName)) ∈ lw_all := lw_g (lw_at lw_m1 144 rfl) rfl
theorem q302 : (Jvm.Cond.lays "MendedThings$Fault" "java/lang/Throwable" "cause" "Ljava/lang/Throwable;") ∈ lw_all := lw_g (lw_at lw_m1 145 rfl) rfl
theorem q304 : (Jvm.Cond.lays "MendedThings$Fault" "java/lang/Throwable" "stackTrace" "[Ljava/lang/StackTraceElement;") ∈ lw_all := lw_g (lw_at lw_m1 147 rfl) rfl
theorem q306 : (Jvm.Cond.lays "MendedThings$Fault" "java/lang/Throwable" "suppressedExceptions" "Ljava/util/List;") ∈ lw_all := lw_g (lw_at lw_m1 149 rfl) rfl
theorem q308 : (Jvm.Cond.lays "MendedThings$Fault" "java/lang/Throwable" "detailMessage" "Ljava/lang/String;") ∈ lw_all := lw_g (lw_at lw_m1 151 rfl) rfl
theorem q310 : (Jvm.Cond.lays "MendedThings$Fault" "java/lang/Throwable" "backtrace" "Ljava/lang/Object;") ∈ lw_all := lw_g (lw_at lw_m1 153 rfl) rfl
theorem q331 : (Jvm.Cond.instanceMethod ({ cls := "MendedThings$Fault", name := "<init>", desc := "()V" } : Jvm.MethodName)) ∈ lw_all := lw_g (lw_at lw_m1 174 rfl) rfl
theorem q332 : (Jvm.Cond.code ({ cls := "MendedThings$Fault", name := "<init>", desc := "()V" } : Jvm.MethodName) prog_6_method_1_code (1 : Nat) (Option.none : Option Jvm.ClassFile.FieldType)) ∈ lw_all := lw_g (lw_at lw_m1 175 rfl) rfl
theorem q333 : (Jvm.Cond.methodLink "MendedThings$Fault" (1 : Nat) ({ cls := "java/lang/RuntimeException", name := "<init>", desc := "(Ljava/lang/String;Ljava/lang/Throwable;ZZ)V" } : Jvm.MethodName)) ∈ lw_all := lw_g (lw_at lw_m1 176 rfl) rfl
theorem q351 : (Jvm.Cond.lays "MendedThings$Fault" "MendedThings$Fault" "kind" "I") ∈ lw_all := lw_g (lw_at lw_m1 194 rfl) rfl
theorem q352 : (Jvm.Cond.soleField "MendedThings$Fault" "kind") ∈ lw_all := lw_g (lw_at lw_m1 195 rfl) rfl
theorem q353 : (Jvm.Cond.lays "MendedThings$Fault" "MendedThings$Fault" "place" "I") ∈ lw_all := lw_g (lw_at lw_m1 196 rfl) rfl
theorem q354 : (Jvm.Cond.soleField "MendedThings$Fault" "place") ∈ lw_all := lw_g (lw_at lw_m1 197 rfl) rfl
theorem q359 : (Jvm.Cond.lays "MendedThings$Fault" "java/lang/Throwable" "depth" "I") ∈ lw_all := lw_g (lw_at lw_m1 202 rfl) rfl
theorem q362 : (Jvm.Cond.superclass "MendedThings$Fault" "java/lang/RuntimeException") ∈ lw_all := lw_g (lw_at lw_m1 205 rfl) rfl
theorem q891 : (Jvm.Cond.selects "MendedThings$Fault" ({ cls := "java/lang/Object", name := "getClass", desc := "()Ljava/lang/Class;" } : Jvm.MethodName) ({ cls := "java/lang/Object", name := "getClass", desc := "()Ljava/lang/Class;" } : Jvm.MethodName)) ∈ lw_all := lw_g (lw_at lw_m4 14 rfl) rfl
theorem q2591 : (Jvm.Cond.castable "MendedThings$Fault" "java/lang/Object") ∈ lw_tbl := lw_at lw_m11 34 rfl
theorem in_X3 : ∀ w ∈ wsX30, w ∈ lw_all := lw_in wsX30 [302, 304, 306, 308, 310, 359, 351, 353] (by decide +kernel) (by decide +kernel)
/-! MendedThings$Moment -/
set_option maxRecDepth 100000
def RX4 : String := "MendedThings$Moment"
def TX4 : u_T := fun k => match k with
  | _ => ("MendedThings$Moment", "of", "[J", true)
def tyX4 : Nat → FieldType := fun k => match k with
  | _ => .array .long
abbrev wsX40 : List Cond := u_ws RX4 TX4 1
theorem nmX4 : ∀ a, a < 1 → ∀ b, b < 1 → a ≠ b → (TX4 a).2.1 ≠ (TX4 b).2.1 := by decide +kernel
theorem tyX4_ok : ∀ k, k < 1 → parseFieldDescriptor (TX4 k).2.2.1 = some (tyX4 k) := by decide +kernel
abbrev cX4_init : ByteArray := prog_11_method_1_code
def yX4_init : MethodName := ⟨RX4, "<init>", "()V"⟩
def dkwX4_init_0 : List UInt8 := [42, 183, 0, 1, 42, 16, 10, 188, 11, 181, 0, 7, 177]
abbrev dktX4_init_0 : List UInt8 := dkwX4_init_0 ++ []
theorem dksX4_init_0 : cX4_init.data.toList.drop 0 = dktX4_init_0 := by decide +kernel
theorem dX4_init_0 : decode cX4_init 0 = .ok (.aload_n 0, 1) := dk_42 (dk_at dksX4_init_0 0 rfl rfl)
theorem dX4_init_1 : decode cX4_init 1 = .ok (.invokespecial 1, 3) := dk_183 0 1 (dk_at dksX4_init_0 1 rfl rfl)
theorem dX4_init_4 : decode cX4_init 4 = .ok (.aload_n 0, 1) := dk_42 (dk_at dksX4_init_0 4 rfl rfl)
theorem dX4_init_5 : decode cX4_init 5 = .ok (.bipush 10, 2) := dk_16 10 (dk_at dksX4_init_0 5 rfl rfl)
theorem dX4_init_7 : decode cX4_init 7 = .ok (.newarray .long, 2) := dk_188_11 (dk_at dksX4_init_0 7 rfl rfl)
theorem dX4_init_9 : decode cX4_init 9 = .ok (.putfield 7, 3) := dk_181 0 7 (dk_at dksX4_init_0 9 rfl rfl)
theorem dX4_init_12 : decode cX4_init 12 = .ok (.return_, 1) := dk_177 (dk_at dksX4_init_0 12 rfl rfl)
theorem q168 : (Jvm.Cond.initialized "MendedThings$Moment") ∈ lw_all := lw_g (lw_at lw_m1 11 rfl) rfl
theorem q390 : (Jvm.Cond.instantiable "MendedThings$Moment" (1 : Nat)) ∈ lw_all := lw_g (lw_at lw_m1 233 rfl) rfl
theorem q392 : (Jvm.Cond.instanceMethod ({ cls := "MendedThings$Moment", name := "<init>", desc := "()V" } : Jvm.MethodName)) ∈ lw_all := lw_g (lw_at lw_m1 235 rfl) rfl
theorem q393 : (Jvm.Cond.code ({ cls := "MendedThings$Moment", name := "<init>", desc := "()V" } : Jvm.MethodName) prog_11_method_1_code (1 : Nat) (Option.none : Option Jvm.ClassFile.FieldType)) ∈ lw_all := lw_g (lw_at lw_m1 236 rfl) rfl
theorem q394 : (Jvm.Cond.methodLink "MendedThings$Moment" (1 : Nat) ({ cls := "java/lang/Object", name := "<init>", desc := "()V" } : Jvm.MethodName)) ∈ lw_all := lw_g (lw_at lw_m1 237 rfl) rfl
theorem q395 : (Jvm.Cond.fieldLink "MendedThings$Moment" (7 : Nat) "MendedThings$Moment" "of" "[J") ∈ lw_all := lw_g (lw_at lw_m1 238 rfl) rfl
theorem q399 : (Jvm.Cond.laysFinal "MendedThings$Moment" "MendedThings$Moment" "of" "[J") ∈ lw_all := lw_g (lw_at lw_m2 2 rfl) rfl
theorem q400 : (Jvm.Cond.soleField "MendedThings$Moment" "of") ∈ lw_all := lw_g (lw_at lw_m2 3 rfl) rfl
theorem q401 : (Jvm.Cond.superclass "MendedThings$Moment" "java/lang/Object") ∈ lw_all := lw_g (lw_at lw_m2 4 rfl) rfl
theorem q896 : (Jvm.Cond.selects "MendedThings$Moment" ({ cls := "java/lang/Object", name := "getClass", desc := "()Ljava/lang/Class;" } : Jvm.MethodName) ({ cls := "java/lang/Object", name := "getClass", desc := "()Ljava/lang/Class;" } : Jvm.MethodName)) ∈ lw_all := lw_g (lw_at lw_m4 19 rfl) rfl
theorem q2592 : (Jvm.Cond.castable "MendedThings$Moment" "java/lang/Object") ∈ lw_tbl := lw_at lw_m11 35 rfl
theorem in_X4 : ∀ w ∈ wsX40, w ∈ lw_all := lw_in wsX40 [399] (by decide +kernel) (by decide +kernel)
/-! MendedThings$Named -/
set_option maxRecDepth 100000
def RX7 : String := "MendedThings$Named"
abbrev cX7_find : ByteArray := prog_12_method_2_code
def yX7_find : MethodName := ⟨RX7, "find", "(Ljava/util/List;Ljava/lang/String;)I"⟩
def dkwX7_find_1 : List UInt8 := [180, 0, 9, 43, 182, 0, 25, 153, 0, 5, 28, 172, 132, 2, 1, 167, 255, 221, 2, 172]
abbrev dktX7_find_1 : List UInt8 := dkwX7_find_1 ++ []
def dkwX7_find_0 : List UInt8 := [3, 61, 28, 42, 185, 0, 15, 1, 0, 162, 0, 31, 42, 28, 185, 0, 21, 2, 0, 192, 0, 10]
abbrev dktX7_find_0 : List UInt8 := dkwX7_find_0 ++ dktX7_find_1
theorem dksX7_find_0 : cX7_find.data.toList.drop 0 = dktX7_find_0 := by decide +kernel
theorem dksX7_find_1 : cX7_find.data.toList.drop 22 = dktX7_find_1 := dk_seg dksX7_find_0 22 rfl rfl
theorem dX7_find_0 : decode cX7_find 0 = .ok (.iconst 0, 1) := dk_3 (dk_at dksX7_find_0 0 rfl rfl)
theorem dX7_find_1 : decode cX7_find 1 = .ok (.istore_n 2, 1) := dk_61 (dk_at dksX7_find_0 1 rfl rfl)
theorem dX7_find_2 : decode cX7_find 2 = .ok (.iload_n 2, 1) := dk_28 (dk_at dksX7_find_0 2 rfl rfl)
theorem dX7_find_3 : decode cX7_find 3 = .ok (.aload_n 0, 1) := dk_42 (dk_at dksX7_find_0 3 rfl rfl)
theorem dX7_find_4 : decode cX7_find 4 = .ok (.invokeinterface 15 1, 5) := by decide +kernel
theorem dX7_find_9 : decode cX7_find 9 = .ok (.if_icmp .ge 31, 3) := dk_162 0 31 (dk_at dksX7_find_0 9 rfl rfl)
theorem dX7_find_12 : decode cX7_find 12 = .ok (.aload_n 0, 1) := dk_42 (dk_at dksX7_find_0 12 rfl rfl)
theorem dX7_find_13 : decode cX7_find 13 = .ok (.iload_n 2, 1) := dk_28 (dk_at dksX7_find_0 13 rfl rfl)
theorem dX7_find_14 : decode cX7_find 14 = .ok (.invokeinterface 21 2, 5) := by decide +kernel
theorem dX7_find_19 : decode cX7_find 19 = .ok (.checkcast 10, 3) := dk_192 0 10 (dk_at dksX7_find_0 19 rfl rfl)
theorem dX7_find_22 : decode cX7_find 22 = .ok (.getfield 9, 3) := dk_180 0 9 (dk_at dksX7_find_1 0 rfl rfl)
theorem dX7_find_25 : decode cX7_find 25 = .ok (.aload_n 1, 1) := dk_43 (dk_at dksX7_find_1 3 rfl rfl)
theorem dX7_find_26 : decode cX7_find 26 = .ok (.invokevirtual 25, 3) := dk_182 0 25 (dk_at dksX7_find_1 4 rfl rfl)
theorem dX7_find_29 : decode cX7_find 29 = .ok (.ifCond .eq 5, 3) := dk_153 0 5 (dk_at dksX7_find_1 7 rfl rfl)
theorem dX7_find_32 : decode cX7_find 32 = .ok (.iload_n 2, 1) := dk_28 (dk_at dksX7_find_1 10 rfl rfl)
theorem dX7_find_33 : decode cX7_find 33 = .ok (.ireturn, 1) := dk_172 (dk_at dksX7_find_1 11 rfl rfl)
theorem dX7_find_34 : decode cX7_find 34 = .ok (.iinc 2 1, 3) := dk_132 2 1 (dk_at dksX7_find_1 12 rfl rfl)
theorem dX7_find_37 : decode cX7_find 37 = .ok (.goto (-35), 3) := dk_167 255 221 (dk_at dksX7_find_1 15 rfl rfl)
theorem dX7_find_40 : decode cX7_find 40 = .ok (.iconst (-1), 1) := dk_2 (dk_at dksX7_find_1 18 rfl rfl)
theorem dX7_find_41 : decode cX7_find 41 = .ok (.ireturn, 1) := dk_172 (dk_at dksX7_find_1 19 rfl rfl)
abbrev cX7_init : ByteArray := prog_12_method_1_code
def yX7_init : MethodName := ⟨RX7, "<init>", "(Ljava/lang/String;)V"⟩
def dkwX7_init_0 : List UInt8 := [42, 183, 0, 3, 42, 43, 181, 0, 9, 177]
abbrev dktX7_init_0 : List UInt8 := dkwX7_init_0 ++ []
theorem dksX7_init_0 : cX7_init.data.toList.drop 0 = dktX7_init_0 := by decide +kernel
theorem dX7_init_0 : decode cX7_init 0 = .ok (.aload_n 0, 1) := dk_42 (dk_at dksX7_init_0 0 rfl rfl)
theorem dX7_init_1 : decode cX7_init 1 = .ok (.invokespecial 3, 3) := dk_183 0 3 (dk_at dksX7_init_0 1 rfl rfl)
theorem dX7_init_4 : decode cX7_init 4 = .ok (.aload_n 0, 1) := dk_42 (dk_at dksX7_init_0 4 rfl rfl)
theorem dX7_init_5 : decode cX7_init 5 = .ok (.aload_n 1, 1) := dk_43 (dk_at dksX7_init_0 5 rfl rfl)
theorem dX7_init_6 : decode cX7_init 6 = .ok (.putfield 9, 3) := dk_181 0 9 (dk_at dksX7_init_0 6 rfl rfl)
theorem dX7_init_9 : decode cX7_init 9 = .ok (.return_, 1) := dk_177 (dk_at dksX7_init_0 9 rfl rfl)
abbrev cX7_letter : ByteArray := prog_12_method_3_code
def yX7_letter : MethodName := ⟨RX7, "letter", "(I)I"⟩
def dkwX7_letter_1 : List UInt8 := [167, 0, 4, 3, 172]
abbrev dktX7_letter_1 : List UInt8 := dkwX7_letter_1 ++ []
def dkwX7_letter_0 : List UInt8 := [27, 42, 180, 0, 9, 182, 0, 31, 162, 0, 19, 42, 180, 0, 9, 27, 182, 0, 34, 16, 97, 100, 4, 96]
abbrev dktX7_letter_0 : List UInt8 := dkwX7_letter_0 ++ dktX7_letter_1
theorem dksX7_letter_0 : cX7_letter.data.toList.drop 0 = dktX7_letter_0 := by decide +kernel
theorem dksX7_letter_1 : cX7_letter.data.toList.drop 24 = dktX7_letter_1 := dk_seg dksX7_letter_0 24 rfl rfl
theorem dX7_letter_0 : decode cX7_letter 0 = .ok (.iload_n 1, 1) := dk_27 (dk_at dksX7_letter_0 0 rfl rfl)
theorem dX7_letter_1 : decode cX7_letter 1 = .ok (.aload_n 0, 1) := dk_42 (dk_at dksX7_letter_0 1 rfl rfl)
theorem dX7_letter_2 : decode cX7_letter 2 = .ok (.getfield 9, 3) := dk_180 0 9 (dk_at dksX7_letter_0 2 rfl rfl)
theorem dX7_letter_5 : decode cX7_letter 5 = .ok (.invokevirtual 31, 3) := dk_182 0 31 (dk_at dksX7_letter_0 5 rfl rfl)
theorem dX7_letter_8 : decode cX7_letter 8 = .ok (.if_icmp .ge 19, 3) := dk_162 0 19 (dk_at dksX7_letter_0 8 rfl rfl)
theorem dX7_letter_11 : decode cX7_letter 11 = .ok (.aload_n 0, 1) := dk_42 (dk_at dksX7_letter_0 11 rfl rfl)
theorem dX7_letter_12 : decode cX7_letter 12 = .ok (.getfield 9, 3) := dk_180 0 9 (dk_at dksX7_letter_0 12 rfl rfl)
theorem dX7_letter_15 : decode cX7_letter 15 = .ok (.iload_n 1, 1) := dk_27 (dk_at dksX7_letter_0 15 rfl rfl)
theorem dX7_letter_16 : decode cX7_letter 16 = .ok (.invokevirtual 34, 3) := dk_182 0 34 (dk_at dksX7_letter_0 16 rfl rfl)
theorem dX7_letter_19 : decode cX7_letter 19 = .ok (.bipush 97, 2) := dk_16 97 (dk_at dksX7_letter_0 19 rfl rfl)
theorem dX7_letter_21 : decode cX7_letter 21 = .ok (.isub, 1) := dk_100 (dk_at dksX7_letter_0 21 rfl rfl)
theorem dX7_letter_22 : decode cX7_letter 22 = .ok (.iconst 1, 1) := dk_4 (dk_at dksX7_letter_0 22 rfl rfl)
theorem dX7_letter_23 : decode cX7_letter 23 = .ok (.iadd, 1) := dk_96 (dk_at dksX7_letter_0 23 rfl rfl)
theorem dX7_letter_24 : decode cX7_letter 24 = .ok (.goto 4, 3) := dk_167 0 4 (dk_at dksX7_letter_1 0 rfl rfl)
theorem dX7_letter_27 : decode cX7_letter 27 = .ok (.iconst 0, 1) := dk_3 (dk_at dksX7_letter_1 3 rfl rfl)
theorem dX7_letter_28 : decode cX7_letter 28 = .ok (.ireturn, 1) := dk_172 (dk_at dksX7_letter_1 4 rfl rfl)
theorem q176 : (Jvm.Cond.initialized "MendedThings$Named") ∈ lw_all := lw_g (lw_at lw_m1 19 rfl) rfl
theorem q776 : (Jvm.Cond.static ({ cls := "MendedThings$Named", name := "find", desc := "(Ljava/util/List;Ljava/lang/String;)I" } : Jvm.MethodName)) ∈ lw_all := lw_g (lw_at lw_m3 139 rfl) rfl
theorem q777 : (Jvm.Cond.code ({ cls := "MendedThings$Named", name := "find", desc := "(Ljava/util/List;Ljava/lang/String;)I" } : Jvm.MethodName) prog_12_method_2_code (3 : Nat) (Option.some Jvm.ClassFile.FieldType.int)) ∈ lw_all := lw_g (lw_at lw_m3 140 rfl) rfl
theorem q778 : (Jvm.Cond.interfaceEntry "MendedThings$Named" (15 : Nat)) ∈ lw_tbl := lw_at lw_m3 141 rfl
theorem q779 : (Jvm.Cond.methodLink "MendedThings$Named" (15 : Nat) ({ cls := "java/util/List", name := "size", desc := "()I" } : Jvm.MethodName)) ∈ lw_all := lw_g (lw_at lw_m3 142 rfl) rfl
theorem q780 : (Jvm.Cond.interfaceEntry "MendedThings$Named" (21 : Nat)) ∈ lw_tbl := lw_at lw_m3 143 rfl
theorem q781 : (Jvm.Cond.methodLink "MendedThings$Named" (21 : Nat) ({ cls := "java/util/List", name := "get", desc := "(I)Ljava/lang/Object;" } : Jvm.MethodName)) ∈ lw_all := lw_g (lw_at lw_m3 144 rfl) rfl
theorem q799 : (Jvm.Cond.classLink "MendedThings$Named" (10 : Nat) "MendedThings$Named") ∈ lw_all := lw_g (lw_at lw_m3 162 rfl) rfl
theorem q800 : (Jvm.Cond.methodLink "MendedThings$Named" (25 : Nat) ({ cls := "java/lang/String", name := "equals", desc := "(Ljava/lang/Object;)Z" } : Jvm.MethodName)) ∈ lw_all := lw_g (lw_at lw_m3 163 rfl) rfl
theorem q825 : (Jvm.Cond.instanceMethod ({ cls := "MendedThings$Named", name := "<init>", desc := "(Ljava/lang/String;)V" } : Jvm.MethodName)) ∈ lw_all := lw_g (lw_at lw_m3 188 rfl) rfl
theorem q826 : (Jvm.Cond.code ({ cls := "MendedThings$Named", name := "<init>", desc := "(Ljava/lang/String;)V" } : Jvm.MethodName) prog_12_method_1_code (2 : Nat) (Option.none : Option Jvm.ClassFile.FieldType)) ∈ lw_all := lw_g (lw_at lw_m3 189 rfl) rfl
theorem q827 : (Jvm.Cond.methodLink "MendedThings$Named" (3 : Nat) ({ cls := "java/lang/Object", name := "<init>", desc := "()V" } : Jvm.MethodName)) ∈ lw_all := lw_g (lw_at lw_m3 190 rfl) rfl
theorem q837 : (Jvm.Cond.fieldLink "MendedThings$Named" (9 : Nat) "MendedThings$Named" "name" "Ljava/lang/String;") ∈ lw_all := lw_g (lw_at lw_m3 200 rfl) rfl
theorem q845 : (Jvm.Cond.soleField "MendedThings$Named" "name") ∈ lw_all := lw_g (lw_at lw_m3 208 rfl) rfl
theorem q1401 : (Jvm.Cond.instanceMethod ({ cls := "MendedThings$Named", name := "letter", desc := "(I)I" } : Jvm.MethodName)) ∈ lw_all := lw_g (lw_at lw_m6 44 rfl) rfl
theorem q1402 : (Jvm.Cond.sameMethod "MendedThings$Named" "MendedThings$Named" "letter" "(I)I") ∈ lw_all := lw_g (lw_at lw_m6 45 rfl) rfl
theorem q1406 : (Jvm.Cond.code ({ cls := "MendedThings$Named", name := "letter", desc := "(I)I" } : Jvm.MethodName) prog_12_method_3_code (2 : Nat) (Option.some Jvm.ClassFile.FieldType.int)) ∈ lw_all := lw_g (lw_at lw_m6 49 rfl) rfl
theorem q1407 : (Jvm.Cond.methodLink "MendedThings$Named" (31 : Nat) ({ cls := "java/lang/String", name := "length", desc := "()I" } : Jvm.MethodName)) ∈ lw_all := lw_g (lw_at lw_m6 50 rfl) rfl
theorem q1408 : (Jvm.Cond.methodLink "MendedThings$Named" (34 : Nat) ({ cls := "java/lang/String", name := "charAt", desc := "(I)C" } : Jvm.MethodName)) ∈ lw_all := lw_g (lw_at lw_m6 51 rfl) rfl
/-! MendedThings$Thing -/
set_option maxRecDepth 100000
def RX8 : String := "MendedThings$Thing"
def TX8 : u_T := fun k => match k with
  | 0 => ("MendedThings$Named", "name", "Ljava/lang/String;", true)
  | 1 => ("MendedThings$Thing", "worth", "I", true)
  | 2 => ("MendedThings$Thing", "use", "I", true)
  | _ => ("MendedThings$Thing", "frail", "I", true)
def tyX8 : Nat → FieldType := fun k => match k with
  | 0 => .object "java/lang/String"
  | 1 => .int
  | 2 => .int
  | _ => .int
abbrev wsX80 : List Cond := u_ws RX8 TX8 4
theorem nmX8 : ∀ a, a < 4 → ∀ b, b < 4 → a ≠ b → (TX8 a).2.1 ≠ (TX8 b).2.1 := by decide +kernel
theorem tyX8_ok : ∀ k, k < 4 → parseFieldDescriptor (TX8 k).2.2.1 = some (tyX8 k) := by decide +kernel
abbrev cX8_init : ByteArray := prog_20_method_1_code
def yX8_init : MethodName := ⟨RX8, "<init>", "(Ljava/lang/String;III)V"⟩
def dkwX8_init_0 : List UInt8 := [42, 43, 183, 0, 1, 42, 28, 181, 0, 7, 42, 29, 181, 0, 13, 42, 21, 4, 181, 0, 16, 177]
abbrev dktX8_init_0 : List UInt8 := dkwX8_init_0 ++ []
theorem dksX8_init_0 : cX8_init.data.toList.drop 0 = dktX8_init_0 := by decide +kernel
theorem dX8_init_0 : decode cX8_init 0 = .ok (.aload_n 0, 1) := dk_42 (dk_at dksX8_init_0 0 rfl rfl)
theorem dX8_init_1 : decode cX8_init 1 = .ok (.aload_n 1, 1) := dk_43 (dk_at dksX8_init_0 1 rfl rfl)
theorem dX8_init_2 : decode cX8_init 2 = .ok (.invokespecial 1, 3) := dk_183 0 1 (dk_at dksX8_init_0 2 rfl rfl)
theorem dX8_init_5 : decode cX8_init 5 = .ok (.aload_n 0, 1) := dk_42 (dk_at dksX8_init_0 5 rfl rfl)
theorem dX8_init_6 : decode cX8_init 6 = .ok (.iload_n 2, 1) := dk_28 (dk_at dksX8_init_0 6 rfl rfl)
theorem dX8_init_7 : decode cX8_init 7 = .ok (.putfield 7, 3) := dk_181 0 7 (dk_at dksX8_init_0 7 rfl rfl)
theorem dX8_init_10 : decode cX8_init 10 = .ok (.aload_n 0, 1) := dk_42 (dk_at dksX8_init_0 10 rfl rfl)
theorem dX8_init_11 : decode cX8_init 11 = .ok (.iload_n 3, 1) := dk_29 (dk_at dksX8_init_0 11 rfl rfl)
theorem dX8_init_12 : decode cX8_init 12 = .ok (.putfield 13, 3) := dk_181 0 13 (dk_at dksX8_init_0 12 rfl rfl)
theorem dX8_init_15 : decode cX8_init 15 = .ok (.aload_n 0, 1) := dk_42 (dk_at dksX8_init_0 15 rfl rfl)
theorem dX8_init_16 : decode cX8_init 16 = .ok (.iload 4, 2) := dk_21 4 (dk_at dksX8_init_0 16 rfl rfl)
theorem dX8_init_18 : decode cX8_init 18 = .ok (.putfield 16, 3) := dk_181 0 16 (dk_at dksX8_init_0 18 rfl rfl)
theorem dX8_init_21 : decode cX8_init 21 = .ok (.return_, 1) := dk_177 (dk_at dksX8_init_0 21 rfl rfl)
theorem q178 : (Jvm.Cond.initialized "MendedThings$Thing") ∈ lw_all := lw_g (lw_at lw_m1 21 rfl) rfl
theorem q819 : (Jvm.Cond.instantiable "MendedThings$Thing" (4 : Nat)) ∈ lw_all := lw_g (lw_at lw_m3 182 rfl) rfl
theorem q822 : (Jvm.Cond.instanceMethod ({ cls := "MendedThings$Thing", name := "<init>", desc := "(Ljava/lang/String;III)V" } : Jvm.MethodName)) ∈ lw_all := lw_g (lw_at lw_m3 185 rfl) rfl
theorem q823 : (Jvm.Cond.code ({ cls := "MendedThings$Thing", name := "<init>", desc := "(Ljava/lang/String;III)V" } : Jvm.MethodName) prog_20_method_1_code (5 : Nat) (Option.none : Option Jvm.ClassFile.FieldType)) ∈ lw_all := lw_g (lw_at lw_m3 186 rfl) rfl
theorem q824 : (Jvm.Cond.methodLink "MendedThings$Thing" (1 : Nat) ({ cls := "MendedThings$Named", name := "<init>", desc := "(Ljava/lang/String;)V" } : Jvm.MethodName)) ∈ lw_all := lw_g (lw_at lw_m3 187 rfl) rfl
theorem q828 : (Jvm.Cond.fieldLink "MendedThings$Thing" (7 : Nat) "MendedThings$Thing" "worth" "I") ∈ lw_all := lw_g (lw_at lw_m3 191 rfl) rfl
theorem q831 : (Jvm.Cond.fieldLink "MendedThings$Thing" (13 : Nat) "MendedThings$Thing" "use" "I") ∈ lw_all := lw_g (lw_at lw_m3 194 rfl) rfl
theorem q834 : (Jvm.Cond.fieldLink "MendedThings$Thing" (16 : Nat) "MendedThings$Thing" "frail" "I") ∈ lw_all := lw_g (lw_at lw_m3 197 rfl) rfl
theorem q838 : (Jvm.Cond.laysFinal "MendedThings$Thing" "MendedThings$Thing" "worth" "I") ∈ lw_all := lw_g (lw_at lw_m3 201 rfl) rfl
theorem q839 : (Jvm.Cond.soleField "MendedThings$Thing" "worth") ∈ lw_all := lw_g (lw_at lw_m3 202 rfl) rfl
theorem q840 : (Jvm.Cond.laysFinal "MendedThings$Thing" "MendedThings$Thing" "use" "I") ∈ lw_all := lw_g (lw_at lw_m3 203 rfl) rfl
theorem q841 : (Jvm.Cond.soleField "MendedThings$Thing" "use") ∈ lw_all := lw_g (lw_at lw_m3 204 rfl) rfl
theorem q842 : (Jvm.Cond.laysFinal "MendedThings$Thing" "MendedThings$Thing" "frail" "I") ∈ lw_all := lw_g (lw_at lw_m3 205 rfl) rfl
theorem q843 : (Jvm.Cond.soleField "MendedThings$Thing" "frail") ∈ lw_all := lw_g (lw_at lw_m3 206 rfl) rfl
theorem q844 : (Jvm.Cond.laysFinal "MendedThings$Thing" "MendedThings$Named" "name" "Ljava/lang/String;") ∈ lw_all := lw_g (lw_at lw_m3 207 rfl) rfl
theorem q846 : (Jvm.Cond.superclass "MendedThings$Thing" "MendedThings$Named") ∈ lw_all := lw_g (lw_at lw_m3 209 rfl) rfl
theorem q903 : (Jvm.Cond.selects "MendedThings$Thing" ({ cls := "java/lang/Object", name := "getClass", desc := "()Ljava/lang/Class;" } : Jvm.MethodName) ({ cls := "java/lang/Object", name := "getClass", desc := "()Ljava/lang/Class;" } : Jvm.MethodName)) ∈ lw_all := lw_g (lw_at lw_m4 26 rfl) rfl
theorem q1404 : (Jvm.Cond.selects "MendedThings$Thing" ({ cls := "MendedThings$Named", name := "letter", desc := "(I)I" } : Jvm.MethodName) ({ cls := "MendedThings$Named", name := "letter", desc := "(I)I" } : Jvm.MethodName)) ∈ lw_all := lw_g (lw_at lw_m6 47 rfl) rfl
theorem q2574 : (Jvm.Cond.castable "MendedThings$Thing" "MendedThings$Named") ∈ lw_tbl := lw_at lw_m11 17 rfl
theorem q2595 : (Jvm.Cond.castable "MendedThings$Thing" "java/lang/Object") ∈ lw_tbl := lw_at lw_m11 38 rfl
theorem in_X8 : ∀ w ∈ wsX80, w ∈ lw_all := lw_in wsX80 [844, 838, 840, 842] (by decide +kernel) (by decide +kernel)
/-! MendedThings$Mender -/
set_option maxRecDepth 100000
def RX9 : String := "MendedThings$Mender"
def TX9 : u_T := fun k => match k with
  | 0 => ("MendedThings$Named", "name", "Ljava/lang/String;", true)
  | 1 => ("MendedThings$Mender", "skill", "I", true)
  | _ => ("MendedThings$Mender", "hours", "I", true)
def tyX9 : Nat → FieldType := fun k => match k with
  | 0 => .object "java/lang/String"
  | 1 => .int
  | _ => .int
abbrev wsX90 : List Cond := u_ws RX9 TX9 3
theorem nmX9 : ∀ a, a < 3 → ∀ b, b < 3 → a ≠ b → (TX9 a).2.1 ≠ (TX9 b).2.1 := by decide +kernel
theorem tyX9_ok : ∀ k, k < 3 → parseFieldDescriptor (TX9 k).2.2.1 = some (tyX9 k) := by decide +kernel
abbrev cX9_init : ByteArray := prog_10_method_1_code
def yX9_init : MethodName := ⟨RX9, "<init>", "(Ljava/lang/String;II)V"⟩
def dkwX9_init_0 : List UInt8 := [42, 43, 183, 0, 1, 42, 28, 181, 0, 7, 42, 29, 181, 0, 13, 177]
abbrev dktX9_init_0 : List UInt8 := dkwX9_init_0 ++ []
theorem dksX9_init_0 : cX9_init.data.toList.drop 0 = dktX9_init_0 := by decide +kernel
theorem dX9_init_0 : decode cX9_init 0 = .ok (.aload_n 0, 1) := dk_42 (dk_at dksX9_init_0 0 rfl rfl)
theorem dX9_init_1 : decode cX9_init 1 = .ok (.aload_n 1, 1) := dk_43 (dk_at dksX9_init_0 1 rfl rfl)
theorem dX9_init_2 : decode cX9_init 2 = .ok (.invokespecial 1, 3) := dk_183 0 1 (dk_at dksX9_init_0 2 rfl rfl)
theorem dX9_init_5 : decode cX9_init 5 = .ok (.aload_n 0, 1) := dk_42 (dk_at dksX9_init_0 5 rfl rfl)
theorem dX9_init_6 : decode cX9_init 6 = .ok (.iload_n 2, 1) := dk_28 (dk_at dksX9_init_0 6 rfl rfl)
theorem dX9_init_7 : decode cX9_init 7 = .ok (.putfield 7, 3) := dk_181 0 7 (dk_at dksX9_init_0 7 rfl rfl)
theorem dX9_init_10 : decode cX9_init 10 = .ok (.aload_n 0, 1) := dk_42 (dk_at dksX9_init_0 10 rfl rfl)
theorem dX9_init_11 : decode cX9_init 11 = .ok (.iload_n 3, 1) := dk_29 (dk_at dksX9_init_0 11 rfl rfl)
theorem dX9_init_12 : decode cX9_init 12 = .ok (.putfield 13, 3) := dk_181 0 13 (dk_at dksX9_init_0 12 rfl rfl)
theorem dX9_init_15 : decode cX9_init 15 = .ok (.return_, 1) := dk_177 (dk_at dksX9_init_0 15 rfl rfl)
theorem q182 : (Jvm.Cond.initialized "MendedThings$Mender") ∈ lw_all := lw_g (lw_at lw_m1 25 rfl) rfl
theorem q895 : (Jvm.Cond.selects "MendedThings$Mender" ({ cls := "java/lang/Object", name := "getClass", desc := "()Ljava/lang/Class;" } : Jvm.MethodName) ({ cls := "java/lang/Object", name := "getClass", desc := "()Ljava/lang/Class;" } : Jvm.MethodName)) ∈ lw_all := lw_g (lw_at lw_m4 18 rfl) rfl
theorem q925 : (Jvm.Cond.instantiable "MendedThings$Mender" (3 : Nat)) ∈ lw_all := lw_g (lw_at lw_m4 48 rfl) rfl
theorem q928 : (Jvm.Cond.instanceMethod ({ cls := "MendedThings$Mender", name := "<init>", desc := "(Ljava/lang/String;II)V" } : Jvm.MethodName)) ∈ lw_all := lw_g (lw_at lw_m4 51 rfl) rfl
theorem q929 : (Jvm.Cond.code ({ cls := "MendedThings$Mender", name := "<init>", desc := "(Ljava/lang/String;II)V" } : Jvm.MethodName) prog_10_method_1_code (4 : Nat) (Option.none : Option Jvm.ClassFile.FieldType)) ∈ lw_all := lw_g (lw_at lw_m4 52 rfl) rfl
theorem q930 : (Jvm.Cond.methodLink "MendedThings$Mender" (1 : Nat) ({ cls := "MendedThings$Named", name := "<init>", desc := "(Ljava/lang/String;)V" } : Jvm.MethodName)) ∈ lw_all := lw_g (lw_at lw_m4 53 rfl) rfl
theorem q931 : (Jvm.Cond.fieldLink "MendedThings$Mender" (7 : Nat) "MendedThings$Mender" "skill" "I") ∈ lw_all := lw_g (lw_at lw_m4 54 rfl) rfl
theorem q934 : (Jvm.Cond.fieldLink "MendedThings$Mender" (13 : Nat) "MendedThings$Mender" "hours" "I") ∈ lw_all := lw_g (lw_at lw_m4 57 rfl) rfl
theorem q937 : (Jvm.Cond.laysFinal "MendedThings$Mender" "MendedThings$Mender" "skill" "I") ∈ lw_all := lw_g (lw_at lw_m4 60 rfl) rfl
theorem q938 : (Jvm.Cond.soleField "MendedThings$Mender" "skill") ∈ lw_all := lw_g (lw_at lw_m4 61 rfl) rfl
theorem q939 : (Jvm.Cond.laysFinal "MendedThings$Mender" "MendedThings$Mender" "hours" "I") ∈ lw_all := lw_g (lw_at lw_m4 62 rfl) rfl
theorem q940 : (Jvm.Cond.soleField "MendedThings$Mender" "hours") ∈ lw_all := lw_g (lw_at lw_m4 63 rfl) rfl
theorem q941 : (Jvm.Cond.laysFinal "MendedThings$Mender" "MendedThings$Named" "name" "Ljava/lang/String;") ∈ lw_all := lw_g (lw_at lw_m4 64 rfl) rfl
theorem q942 : (Jvm.Cond.superclass "MendedThings$Mender" "MendedThings$Named") ∈ lw_all := lw_g (lw_at lw_m4 65 rfl) rfl
theorem q1403 : (Jvm.Cond.selects "MendedThings$Mender" ({ cls := "MendedThings$Named", name := "letter", desc := "(I)I" } : Jvm.MethodName) ({ cls := "MendedThings$Named", name := "letter", desc := "(I)I" } : Jvm.MethodName)) ∈ lw_all := lw_g (lw_at lw_m6 46 rfl) rfl
theorem q2573 : (Jvm.Cond.castable "MendedThings$Mender" "MendedThings$Named") ∈ lw_tbl := lw_at lw_m11 16 rfl
theorem q2596 : (Jvm.Cond.castable "MendedThings$Mender" "java/lang/Object") ∈ lw_tbl := lw_at lw_m11 39 rfl
theorem in_X9 : ∀ w ∈ wsX90, w ∈ lw_all := lw_in wsX90 [941, 937, 939] (by decide +kernel) (by decide +kernel)
