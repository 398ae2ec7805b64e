/-! MendedThings$State -/
set_option maxRecDepth 100000
def RX5 : String := "MendedThings$State"
def TX5 : u_T := fun k => match k with
  | 0 => ("MendedThings$State", "day", "I", false)
  | 1 => ("MendedThings$State", "keeps", "I", false)
  | 2 => ("MendedThings$State", "is", "[I", true)
  | 3 => ("MendedThings$State", "breaks", "[I", true)
  | 4 => ("MendedThings$State", "mends", "[I", true)
  | 5 => ("MendedThings$State", "glue", "[I", true)
  | 6 => ("MendedThings$State", "isForged", "[Z", true)
  | 7 => ("MendedThings$State", "rows", "[[I", true)
  | 8 => ("MendedThings$State", "broke", "I", false)
  | 9 => ("MendedThings$State", "other", "I", false)
  | 10 => ("MendedThings$State", "frail", "I", false)
  | 11 => ("MendedThings$State", "left", "[I", true)
  | _ => ("MendedThings$State", "this$0", "LMendedThings;", true)
def tyX5 : Nat → FieldType := fun k => match k with
  | 0 => .int
  | 1 => .int
  | 2 => .array .int
  | 3 => .array .int
  | 4 => .array .int
  | 5 => .array .int
  | 6 => .array .boolean
  | 7 => .array (.array .int)
  | 8 => .int
  | 9 => .int
  | 10 => .int
  | 11 => .array .int
  | _ => .object "MendedThings"
abbrev wsX50 : List Cond := u_ws RX5 TX5 13
set_option maxRecDepth 100000 in
theorem nmX5 : ∀ a, a < 13 → ∀ b, b < 13 → a ≠ b → (TX5 a).2.1 ≠ (TX5 b).2.1 := by decide +kernel
set_option maxRecDepth 100000 in
theorem tyX5_ok : ∀ k, k < 13 → parseFieldDescriptor (TX5 k).2.2.1 = some (tyX5 k) := by decide +kernel
abbrev cX5_init : ByteArray := prog_17_method_1_code
def yX5_init : MethodName := ⟨RX5, "<init>", "(LMendedThings;)V"⟩
def dkwX5_init_2 : List UInt8 := [181, 0, 28, 42, 16, 50, 6, 197, 0, 32, 2, 181, 0, 34, 42, 7, 188, 10, 181, 0, 37, 177]
abbrev dktX5_init_2 : List UInt8 := dkwX5_init_2 ++ []
def dkwX5_init_1 : List UInt8 := [181, 0, 19, 42, 16, 8, 188, 10, 181, 0, 22, 42, 16, 8, 188, 10, 181, 0, 25, 42, 16, 8, 188, 4]
abbrev dktX5_init_1 : List UInt8 := dkwX5_init_1 ++ dktX5_init_2
def dkwX5_init_0 : List UInt8 := [42, 43, 181, 0, 3, 42, 183, 0, 9, 42, 16, 8, 188, 10, 181, 0, 15, 42, 16, 8, 188, 10]
abbrev dktX5_init_0 : List UInt8 := dkwX5_init_0 ++ dktX5_init_1
theorem dksX5_init_0 : cX5_init.data.toList.drop 0 = dktX5_init_0 := by decide +kernel
theorem dksX5_init_1 : cX5_init.data.toList.drop 22 = dktX5_init_1 := dk_seg dksX5_init_0 22 rfl rfl
theorem dksX5_init_2 : cX5_init.data.toList.drop 46 = dktX5_init_2 := dk_seg dksX5_init_1 24 rfl rfl
theorem dX5_init_0 : decode cX5_init 0 = .ok (.aload_n 0, 1) := dk_42 (dk_at dksX5_init_0 0 rfl rfl)
theorem dX5_init_1 : decode cX5_init 1 = .ok (.aload_n 1, 1) := dk_43 (dk_at dksX5_init_0 1 rfl rfl)
theorem dX5_init_2 : decode cX5_init 2 = .ok (.putfield 3, 3) := dk_181 0 3 (dk_at dksX5_init_0 2 rfl rfl)
theorem dX5_init_5 : decode cX5_init 5 = .ok (.aload_n 0, 1) := dk_42 (dk_at dksX5_init_0 5 rfl rfl)
theorem dX5_init_6 : decode cX5_init 6 = .ok (.invokespecial 9, 3) := dk_183 0 9 (dk_at dksX5_init_0 6 rfl rfl)
theorem dX5_init_9 : decode cX5_init 9 = .ok (.aload_n 0, 1) := dk_42 (dk_at dksX5_init_0 9 rfl rfl)
theorem dX5_init_10 : decode cX5_init 10 = .ok (.bipush 8, 2) := dk_16 8 (dk_at dksX5_init_0 10 rfl rfl)
theorem dX5_init_12 : decode cX5_init 12 = .ok (.newarray .int, 2) := dk_188_10 (dk_at dksX5_init_0 12 rfl rfl)
theorem dX5_init_14 : decode cX5_init 14 = .ok (.putfield 15, 3) := dk_181 0 15 (dk_at dksX5_init_0 14 rfl rfl)
theorem dX5_init_17 : decode cX5_init 17 = .ok (.aload_n 0, 1) := dk_42 (dk_at dksX5_init_0 17 rfl rfl)
theorem dX5_init_18 : decode cX5_init 18 = .ok (.bipush 8, 2) := dk_16 8 (dk_at dksX5_init_0 18 rfl rfl)
theorem dX5_init_20 : decode cX5_init 20 = .ok (.newarray .int, 2) := dk_188_10 (dk_at dksX5_init_0 20 rfl rfl)
theorem dX5_init_22 : decode cX5_init 22 = .ok (.putfield 19, 3) := dk_181 0 19 (dk_at dksX5_init_1 0 rfl rfl)
theorem dX5_init_25 : decode cX5_init 25 = .ok (.aload_n 0, 1) := dk_42 (dk_at dksX5_init_1 3 rfl rfl)
theorem dX5_init_26 : decode cX5_init 26 = .ok (.bipush 8, 2) := dk_16 8 (dk_at dksX5_init_1 4 rfl rfl)
theorem dX5_init_28 : decode cX5_init 28 = .ok (.newarray .int, 2) := dk_188_10 (dk_at dksX5_init_1 6 rfl rfl)
theorem dX5_init_30 : decode cX5_init 30 = .ok (.putfield 22, 3) := dk_181 0 22 (dk_at dksX5_init_1 8 rfl rfl)
theorem dX5_init_33 : decode cX5_init 33 = .ok (.aload_n 0, 1) := dk_42 (dk_at dksX5_init_1 11 rfl rfl)
theorem dX5_init_34 : decode cX5_init 34 = .ok (.bipush 8, 2) := dk_16 8 (dk_at dksX5_init_1 12 rfl rfl)
theorem dX5_init_36 : decode cX5_init 36 = .ok (.newarray .int, 2) := dk_188_10 (dk_at dksX5_init_1 14 rfl rfl)
theorem dX5_init_38 : decode cX5_init 38 = .ok (.putfield 25, 3) := dk_181 0 25 (dk_at dksX5_init_1 16 rfl rfl)
theorem dX5_init_41 : decode cX5_init 41 = .ok (.aload_n 0, 1) := dk_42 (dk_at dksX5_init_1 19 rfl rfl)
theorem dX5_init_42 : decode cX5_init 42 = .ok (.bipush 8, 2) := dk_16 8 (dk_at dksX5_init_1 20 rfl rfl)
theorem dX5_init_44 : decode cX5_init 44 = .ok (.newarray .boolean, 2) := dk_188_4 (dk_at dksX5_init_1 22 rfl rfl)
theorem dX5_init_46 : decode cX5_init 46 = .ok (.putfield 28, 3) := dk_181 0 28 (dk_at dksX5_init_2 0 rfl rfl)
theorem dX5_init_49 : decode cX5_init 49 = .ok (.aload_n 0, 1) := dk_42 (dk_at dksX5_init_2 3 rfl rfl)
theorem dX5_init_50 : decode cX5_init 50 = .ok (.bipush 50, 2) := dk_16 50 (dk_at dksX5_init_2 4 rfl rfl)
theorem dX5_init_52 : decode cX5_init 52 = .ok (.iconst 3, 1) := dk_6 (dk_at dksX5_init_2 6 rfl rfl)
theorem dX5_init_53 : decode cX5_init 53 = .ok (.multianewarray 32 2, 4) := by decide +kernel
theorem dX5_init_57 : decode cX5_init 57 = .ok (.putfield 34, 3) := dk_181 0 34 (dk_at dksX5_init_2 11 rfl rfl)
theorem dX5_init_60 : decode cX5_init 60 = .ok (.aload_n 0, 1) := dk_42 (dk_at dksX5_init_2 14 rfl rfl)
theorem dX5_init_61 : decode cX5_init 61 = .ok (.iconst 4, 1) := dk_7 (dk_at dksX5_init_2 15 rfl rfl)
theorem dX5_init_62 : decode cX5_init 62 = .ok (.newarray .int, 2) := dk_188_10 (dk_at dksX5_init_2 16 rfl rfl)
theorem dX5_init_64 : decode cX5_init 64 = .ok (.putfield 37, 3) := dk_181 0 37 (dk_at dksX5_init_2 18 rfl rfl)
theorem dX5_init_67 : decode cX5_init 67 = .ok (.return_, 1) := dk_177 (dk_at dksX5_init_2 21 rfl rfl)
abbrev cX5_begins : ByteArray := prog_17_method_2_code
def yX5_begins : MethodName := ⟨RX5, "begins", "()V"⟩
def dkwX5_begins_2 : List UInt8 := [27, 3, 79, 42, 180, 0, 28, 27, 3, 84, 132, 1, 1, 167, 255, 212, 177]
abbrev dktX5_begins_2 : List UInt8 := dkwX5_begins_2 ++ []
def dkwX5_begins_1 : List UInt8 := [180, 0, 15, 27, 3, 79, 42, 180, 0, 19, 27, 3, 79, 42, 180, 0, 22, 27, 3, 79, 42, 180, 0, 25]
abbrev dktX5_begins_1 : List UInt8 := dkwX5_begins_1 ++ dktX5_begins_2
def dkwX5_begins_0 : List UInt8 := [42, 3, 181, 0, 40, 42, 3, 181, 0, 44, 42, 2, 181, 0, 47, 3, 60, 27, 16, 8, 162, 0, 44, 42]
abbrev dktX5_begins_0 : List UInt8 := dkwX5_begins_0 ++ dktX5_begins_1
theorem dksX5_begins_0 : cX5_begins.data.toList.drop 0 = dktX5_begins_0 := by decide +kernel
theorem dksX5_begins_1 : cX5_begins.data.toList.drop 24 = dktX5_begins_1 := dk_seg dksX5_begins_0 24 rfl rfl
theorem dksX5_begins_2 : cX5_begins.data.toList.drop 48 = dktX5_begins_2 := dk_seg dksX5_begins_1 24 rfl rfl
theorem dX5_begins_0 : decode cX5_begins 0 = .ok (.aload_n 0, 1) := dk_42 (dk_at dksX5_begins_0 0 rfl rfl)
theorem dX5_begins_1 : decode cX5_begins 1 = .ok (.iconst 0, 1) := dk_3 (dk_at dksX5_begins_0 1 rfl rfl)
theorem dX5_begins_2 : decode cX5_begins 2 = .ok (.putfield 40, 3) := dk_181 0 40 (dk_at dksX5_begins_0 2 rfl rfl)
theorem dX5_begins_5 : decode cX5_begins 5 = .ok (.aload_n 0, 1) := dk_42 (dk_at dksX5_begins_0 5 rfl rfl)
theorem dX5_begins_6 : decode cX5_begins 6 = .ok (.iconst 0, 1) := dk_3 (dk_at dksX5_begins_0 6 rfl rfl)
theorem dX5_begins_7 : decode cX5_begins 7 = .ok (.putfield 44, 3) := dk_181 0 44 (dk_at dksX5_begins_0 7 rfl rfl)
theorem dX5_begins_10 : decode cX5_begins 10 = .ok (.aload_n 0, 1) := dk_42 (dk_at dksX5_begins_0 10 rfl rfl)
theorem dX5_begins_11 : decode cX5_begins 11 = .ok (.iconst (-1), 1) := dk_2 (dk_at dksX5_begins_0 11 rfl rfl)
theorem dX5_begins_12 : decode cX5_begins 12 = .ok (.putfield 47, 3) := dk_181 0 47 (dk_at dksX5_begins_0 12 rfl rfl)
theorem dX5_begins_15 : decode cX5_begins 15 = .ok (.iconst 0, 1) := dk_3 (dk_at dksX5_begins_0 15 rfl rfl)
theorem dX5_begins_16 : decode cX5_begins 16 = .ok (.istore_n 1, 1) := dk_60 (dk_at dksX5_begins_0 16 rfl rfl)
theorem dX5_begins_17 : decode cX5_begins 17 = .ok (.iload_n 1, 1) := dk_27 (dk_at dksX5_begins_0 17 rfl rfl)
theorem dX5_begins_18 : decode cX5_begins 18 = .ok (.bipush 8, 2) := dk_16 8 (dk_at dksX5_begins_0 18 rfl rfl)
theorem dX5_begins_20 : decode cX5_begins 20 = .ok (.if_icmp .ge 44, 3) := dk_162 0 44 (dk_at dksX5_begins_0 20 rfl rfl)
theorem dX5_begins_23 : decode cX5_begins 23 = .ok (.aload_n 0, 1) := dk_42 (dk_at dksX5_begins_0 23 rfl rfl)
theorem dX5_begins_24 : decode cX5_begins 24 = .ok (.getfield 15, 3) := dk_180 0 15 (dk_at dksX5_begins_1 0 rfl rfl)
theorem dX5_begins_27 : decode cX5_begins 27 = .ok (.iload_n 1, 1) := dk_27 (dk_at dksX5_begins_1 3 rfl rfl)
theorem dX5_begins_28 : decode cX5_begins 28 = .ok (.iconst 0, 1) := dk_3 (dk_at dksX5_begins_1 4 rfl rfl)
theorem dX5_begins_29 : decode cX5_begins 29 = .ok (.iastore, 1) := dk_79 (dk_at dksX5_begins_1 5 rfl rfl)
theorem dX5_begins_30 : decode cX5_begins 30 = .ok (.aload_n 0, 1) := dk_42 (dk_at dksX5_begins_1 6 rfl rfl)
theorem dX5_begins_31 : decode cX5_begins 31 = .ok (.getfield 19, 3) := dk_180 0 19 (dk_at dksX5_begins_1 7 rfl rfl)
theorem dX5_begins_34 : decode cX5_begins 34 = .ok (.iload_n 1, 1) := dk_27 (dk_at dksX5_begins_1 10 rfl rfl)
theorem dX5_begins_35 : decode cX5_begins 35 = .ok (.iconst 0, 1) := dk_3 (dk_at dksX5_begins_1 11 rfl rfl)
theorem dX5_begins_36 : decode cX5_begins 36 = .ok (.iastore, 1) := dk_79 (dk_at dksX5_begins_1 12 rfl rfl)
theorem dX5_begins_37 : decode cX5_begins 37 = .ok (.aload_n 0, 1) := dk_42 (dk_at dksX5_begins_1 13 rfl rfl)
theorem dX5_begins_38 : decode cX5_begins 38 = .ok (.getfield 22, 3) := dk_180 0 22 (dk_at dksX5_begins_1 14 rfl rfl)
theorem dX5_begins_41 : decode cX5_begins 41 = .ok (.iload_n 1, 1) := dk_27 (dk_at dksX5_begins_1 17 rfl rfl)
theorem dX5_begins_42 : decode cX5_begins 42 = .ok (.iconst 0, 1) := dk_3 (dk_at dksX5_begins_1 18 rfl rfl)
theorem dX5_begins_43 : decode cX5_begins 43 = .ok (.iastore, 1) := dk_79 (dk_at dksX5_begins_1 19 rfl rfl)
theorem dX5_begins_44 : decode cX5_begins 44 = .ok (.aload_n 0, 1) := dk_42 (dk_at dksX5_begins_1 20 rfl rfl)
theorem dX5_begins_45 : decode cX5_begins 45 = .ok (.getfield 25, 3) := dk_180 0 25 (dk_at dksX5_begins_1 21 rfl rfl)
theorem dX5_begins_48 : decode cX5_begins 48 = .ok (.iload_n 1, 1) := dk_27 (dk_at dksX5_begins_2 0 rfl rfl)
theorem dX5_begins_49 : decode cX5_begins 49 = .ok (.iconst 0, 1) := dk_3 (dk_at dksX5_begins_2 1 rfl rfl)
theorem dX5_begins_50 : decode cX5_begins 50 = .ok (.iastore, 1) := dk_79 (dk_at dksX5_begins_2 2 rfl rfl)
theorem dX5_begins_51 : decode cX5_begins 51 = .ok (.aload_n 0, 1) := dk_42 (dk_at dksX5_begins_2 3 rfl rfl)
theorem dX5_begins_52 : decode cX5_begins 52 = .ok (.getfield 28, 3) := dk_180 0 28 (dk_at dksX5_begins_2 4 rfl rfl)
theorem dX5_begins_55 : decode cX5_begins 55 = .ok (.iload_n 1, 1) := dk_27 (dk_at dksX5_begins_2 7 rfl rfl)
theorem dX5_begins_56 : decode cX5_begins 56 = .ok (.iconst 0, 1) := dk_3 (dk_at dksX5_begins_2 8 rfl rfl)
theorem dX5_begins_57 : decode cX5_begins 57 = .ok (.bastore, 1) := dk_84 (dk_at dksX5_begins_2 9 rfl rfl)
theorem dX5_begins_58 : decode cX5_begins 58 = .ok (.iinc 1 1, 3) := dk_132 1 1 (dk_at dksX5_begins_2 10 rfl rfl)
theorem dX5_begins_61 : decode cX5_begins 61 = .ok (.goto (-44), 3) := dk_167 255 212 (dk_at dksX5_begins_2 13 rfl rfl)
theorem dX5_begins_64 : decode cX5_begins 64 = .ok (.return_, 1) := dk_177 (dk_at dksX5_begins_2 16 rfl rfl)
abbrev cX5_are : ByteArray := prog_17_method_17_code
def yX5_are : MethodName := ⟨RX5, "are", "(I)I"⟩
def dkwX5_are_1 : List UInt8 := [160, 0, 9, 4, 29, 120, 167, 0, 4, 3, 128, 61, 132, 3, 1, 167, 255, 222, 28, 172]
abbrev dktX5_are_1 : List UInt8 := dkwX5_are_1 ++ []
def dkwX5_are_0 : List UInt8 := [3, 61, 3, 62, 29, 42, 180, 0, 3, 182, 0, 156, 162, 0, 29, 28, 42, 180, 0, 15, 29, 46, 27]
abbrev dktX5_are_0 : List UInt8 := dkwX5_are_0 ++ dktX5_are_1
theorem dksX5_are_0 : cX5_are.data.toList.drop 0 = dktX5_are_0 := by decide +kernel
theorem dksX5_are_1 : cX5_are.data.toList.drop 23 = dktX5_are_1 := dk_seg dksX5_are_0 23 rfl rfl
theorem dX5_are_0 : decode cX5_are 0 = .ok (.iconst 0, 1) := dk_3 (dk_at dksX5_are_0 0 rfl rfl)
theorem dX5_are_1 : decode cX5_are 1 = .ok (.istore_n 2, 1) := dk_61 (dk_at dksX5_are_0 1 rfl rfl)
theorem dX5_are_2 : decode cX5_are 2 = .ok (.iconst 0, 1) := dk_3 (dk_at dksX5_are_0 2 rfl rfl)
theorem dX5_are_3 : decode cX5_are 3 = .ok (.istore_n 3, 1) := dk_62 (dk_at dksX5_are_0 3 rfl rfl)
theorem dX5_are_4 : decode cX5_are 4 = .ok (.iload_n 3, 1) := dk_29 (dk_at dksX5_are_0 4 rfl rfl)
theorem dX5_are_5 : decode cX5_are 5 = .ok (.aload_n 0, 1) := dk_42 (dk_at dksX5_are_0 5 rfl rfl)
theorem dX5_are_6 : decode cX5_are 6 = .ok (.getfield 3, 3) := dk_180 0 3 (dk_at dksX5_are_0 6 rfl rfl)
theorem dX5_are_9 : decode cX5_are 9 = .ok (.invokevirtual 156, 3) := dk_182 0 156 (dk_at dksX5_are_0 9 rfl rfl)
theorem dX5_are_12 : decode cX5_are 12 = .ok (.if_icmp .ge 29, 3) := dk_162 0 29 (dk_at dksX5_are_0 12 rfl rfl)
theorem dX5_are_15 : decode cX5_are 15 = .ok (.iload_n 2, 1) := dk_28 (dk_at dksX5_are_0 15 rfl rfl)
theorem dX5_are_16 : decode cX5_are 16 = .ok (.aload_n 0, 1) := dk_42 (dk_at dksX5_are_0 16 rfl rfl)
theorem dX5_are_17 : decode cX5_are 17 = .ok (.getfield 15, 3) := dk_180 0 15 (dk_at dksX5_are_0 17 rfl rfl)
theorem dX5_are_20 : decode cX5_are 20 = .ok (.iload_n 3, 1) := dk_29 (dk_at dksX5_are_0 20 rfl rfl)
theorem dX5_are_21 : decode cX5_are 21 = .ok (.iaload, 1) := dk_46 (dk_at dksX5_are_0 21 rfl rfl)
theorem dX5_are_22 : decode cX5_are 22 = .ok (.iload_n 1, 1) := dk_27 (dk_at dksX5_are_0 22 rfl rfl)
theorem dX5_are_23 : decode cX5_are 23 = .ok (.if_icmp .ne 9, 3) := dk_160 0 9 (dk_at dksX5_are_1 0 rfl rfl)
theorem dX5_are_26 : decode cX5_are 26 = .ok (.iconst 1, 1) := dk_4 (dk_at dksX5_are_1 3 rfl rfl)
theorem dX5_are_27 : decode cX5_are 27 = .ok (.iload_n 3, 1) := dk_29 (dk_at dksX5_are_1 4 rfl rfl)
theorem dX5_are_28 : decode cX5_are 28 = .ok (.ishl, 1) := dk_120 (dk_at dksX5_are_1 5 rfl rfl)
theorem dX5_are_29 : decode cX5_are 29 = .ok (.goto 4, 3) := dk_167 0 4 (dk_at dksX5_are_1 6 rfl rfl)
theorem dX5_are_32 : decode cX5_are 32 = .ok (.iconst 0, 1) := dk_3 (dk_at dksX5_are_1 9 rfl rfl)
theorem dX5_are_33 : decode cX5_are 33 = .ok (.ior, 1) := dk_128 (dk_at dksX5_are_1 10 rfl rfl)
theorem dX5_are_34 : decode cX5_are 34 = .ok (.istore_n 2, 1) := dk_61 (dk_at dksX5_are_1 11 rfl rfl)
theorem dX5_are_35 : decode cX5_are 35 = .ok (.iinc 3 1, 3) := dk_132 3 1 (dk_at dksX5_are_1 12 rfl rfl)
theorem dX5_are_38 : decode cX5_are 38 = .ok (.goto (-34), 3) := dk_167 255 222 (dk_at dksX5_are_1 15 rfl rfl)
theorem dX5_are_41 : decode cX5_are 41 = .ok (.iload_n 2, 1) := dk_28 (dk_at dksX5_are_1 18 rfl rfl)
theorem dX5_are_42 : decode cX5_are 42 = .ok (.ireturn, 1) := dk_172 (dk_at dksX5_are_1 19 rfl rfl)
abbrev cX5_standing : ByteArray := prog_17_method_18_code
def yX5_standing : MethodName := ⟨RX5, "standing", "()I"⟩
def dkwX5_standing_1 : List UInt8 := [4, 28, 120, 167, 0, 4, 3, 128, 60, 132, 2, 1, 167, 255, 224, 27, 172]
abbrev dktX5_standing_1 : List UInt8 := dkwX5_standing_1 ++ []
def dkwX5_standing_0 : List UInt8 := [3, 60, 3, 61, 28, 42, 180, 0, 3, 182, 0, 156, 162, 0, 27, 27, 42, 28, 182, 0, 192, 153, 0, 9]
abbrev dktX5_standing_0 : List UInt8 := dkwX5_standing_0 ++ dktX5_standing_1
theorem dksX5_standing_0 : cX5_standing.data.toList.drop 0 = dktX5_standing_0 := by decide +kernel
theorem dksX5_standing_1 : cX5_standing.data.toList.drop 24 = dktX5_standing_1 := dk_seg dksX5_standing_0 24 rfl rfl
theorem dX5_standing_0 : decode cX5_standing 0 = .ok (.iconst 0, 1) := dk_3 (dk_at dksX5_standing_0 0 rfl rfl)
theorem dX5_standing_1 : decode cX5_standing 1 = .ok (.istore_n 1, 1) := dk_60 (dk_at dksX5_standing_0 1 rfl rfl)
theorem dX5_standing_2 : decode cX5_standing 2 = .ok (.iconst 0, 1) := dk_3 (dk_at dksX5_standing_0 2 rfl rfl)
theorem dX5_standing_3 : decode cX5_standing 3 = .ok (.istore_n 2, 1) := dk_61 (dk_at dksX5_standing_0 3 rfl rfl)
theorem dX5_standing_4 : decode cX5_standing 4 = .ok (.iload_n 2, 1) := dk_28 (dk_at dksX5_standing_0 4 rfl rfl)
theorem dX5_standing_5 : decode cX5_standing 5 = .ok (.aload_n 0, 1) := dk_42 (dk_at dksX5_standing_0 5 rfl rfl)
theorem dX5_standing_6 : decode cX5_standing 6 = .ok (.getfield 3, 3) := dk_180 0 3 (dk_at dksX5_standing_0 6 rfl rfl)
theorem dX5_standing_9 : decode cX5_standing 9 = .ok (.invokevirtual 156, 3) := dk_182 0 156 (dk_at dksX5_standing_0 9 rfl rfl)
theorem dX5_standing_12 : decode cX5_standing 12 = .ok (.if_icmp .ge 27, 3) := dk_162 0 27 (dk_at dksX5_standing_0 12 rfl rfl)
theorem dX5_standing_15 : decode cX5_standing 15 = .ok (.iload_n 1, 1) := dk_27 (dk_at dksX5_standing_0 15 rfl rfl)
theorem dX5_standing_16 : decode cX5_standing 16 = .ok (.aload_n 0, 1) := dk_42 (dk_at dksX5_standing_0 16 rfl rfl)
theorem dX5_standing_17 : decode cX5_standing 17 = .ok (.iload_n 2, 1) := dk_28 (dk_at dksX5_standing_0 17 rfl rfl)
theorem dX5_standing_18 : decode cX5_standing 18 = .ok (.invokevirtual 192, 3) := dk_182 0 192 (dk_at dksX5_standing_0 18 rfl rfl)
theorem dX5_standing_21 : decode cX5_standing 21 = .ok (.ifCond .eq 9, 3) := dk_153 0 9 (dk_at dksX5_standing_0 21 rfl rfl)
theorem dX5_standing_24 : decode cX5_standing 24 = .ok (.iconst 1, 1) := dk_4 (dk_at dksX5_standing_1 0 rfl rfl)
theorem dX5_standing_25 : decode cX5_standing 25 = .ok (.iload_n 2, 1) := dk_28 (dk_at dksX5_standing_1 1 rfl rfl)
theorem dX5_standing_26 : decode cX5_standing 26 = .ok (.ishl, 1) := dk_120 (dk_at dksX5_standing_1 2 rfl rfl)
theorem dX5_standing_27 : decode cX5_standing 27 = .ok (.goto 4, 3) := dk_167 0 4 (dk_at dksX5_standing_1 3 rfl rfl)
theorem dX5_standing_30 : decode cX5_standing 30 = .ok (.iconst 0, 1) := dk_3 (dk_at dksX5_standing_1 6 rfl rfl)
theorem dX5_standing_31 : decode cX5_standing 31 = .ok (.ior, 1) := dk_128 (dk_at dksX5_standing_1 7 rfl rfl)
theorem dX5_standing_32 : decode cX5_standing 32 = .ok (.istore_n 1, 1) := dk_60 (dk_at dksX5_standing_1 8 rfl rfl)
theorem dX5_standing_33 : decode cX5_standing 33 = .ok (.iinc 2 1, 3) := dk_132 2 1 (dk_at dksX5_standing_1 9 rfl rfl)
theorem dX5_standing_36 : decode cX5_standing 36 = .ok (.goto (-32), 3) := dk_167 255 224 (dk_at dksX5_standing_1 12 rfl rfl)
theorem dX5_standing_39 : decode cX5_standing 39 = .ok (.iload_n 1, 1) := dk_27 (dk_at dksX5_standing_1 15 rfl rfl)
theorem dX5_standing_40 : decode cX5_standing 40 = .ok (.ireturn, 1) := dk_172 (dk_at dksX5_standing_1 16 rfl rfl)
abbrev cX5_stands : ByteArray := prog_17_method_7_code
def yX5_stands : MethodName := ⟨RX5, "stands", "(I)Z"⟩
def dkwX5_stands_2 : List UInt8 := [182, 0, 111, 153, 0, 7, 4, 167, 0, 4, 3, 172]
abbrev dktX5_stands_2 : List UInt8 := dkwX5_stands_2 ++ []
def dkwX5_stands_1 : List UInt8 := [180, 0, 22, 27, 46, 158, 0, 28, 167, 0, 21, 42, 42, 180, 0, 3, 180, 0, 101, 180, 0, 105, 27]
abbrev dktX5_stands_1 : List UInt8 := dkwX5_stands_1 ++ dktX5_stands_2
def dkwX5_stands_0 : List UInt8 := [42, 180, 0, 15, 27, 46, 5, 160, 0, 50, 42, 180, 0, 3, 180, 0, 101, 180, 0, 105, 199, 0, 15, 42]
abbrev dktX5_stands_0 : List UInt8 := dkwX5_stands_0 ++ dktX5_stands_1
theorem dksX5_stands_0 : cX5_stands.data.toList.drop 0 = dktX5_stands_0 := by decide +kernel
theorem dksX5_stands_1 : cX5_stands.data.toList.drop 24 = dktX5_stands_1 := dk_seg dksX5_stands_0 24 rfl rfl
theorem dksX5_stands_2 : cX5_stands.data.toList.drop 47 = dktX5_stands_2 := dk_seg dksX5_stands_1 23 rfl rfl
theorem dX5_stands_0 : decode cX5_stands 0 = .ok (.aload_n 0, 1) := dk_42 (dk_at dksX5_stands_0 0 rfl rfl)
theorem dX5_stands_1 : decode cX5_stands 1 = .ok (.getfield 15, 3) := dk_180 0 15 (dk_at dksX5_stands_0 1 rfl rfl)
theorem dX5_stands_4 : decode cX5_stands 4 = .ok (.iload_n 1, 1) := dk_27 (dk_at dksX5_stands_0 4 rfl rfl)
theorem dX5_stands_5 : decode cX5_stands 5 = .ok (.iaload, 1) := dk_46 (dk_at dksX5_stands_0 5 rfl rfl)
theorem dX5_stands_6 : decode cX5_stands 6 = .ok (.iconst 2, 1) := dk_5 (dk_at dksX5_stands_0 6 rfl rfl)
theorem dX5_stands_7 : decode cX5_stands 7 = .ok (.if_icmp .ne 50, 3) := dk_160 0 50 (dk_at dksX5_stands_0 7 rfl rfl)
theorem dX5_stands_10 : decode cX5_stands 10 = .ok (.aload_n 0, 1) := dk_42 (dk_at dksX5_stands_0 10 rfl rfl)
theorem dX5_stands_11 : decode cX5_stands 11 = .ok (.getfield 3, 3) := dk_180 0 3 (dk_at dksX5_stands_0 11 rfl rfl)
theorem dX5_stands_14 : decode cX5_stands 14 = .ok (.getfield 101, 3) := dk_180 0 101 (dk_at dksX5_stands_0 14 rfl rfl)
theorem dX5_stands_17 : decode cX5_stands 17 = .ok (.getfield 105, 3) := dk_180 0 105 (dk_at dksX5_stands_0 17 rfl rfl)
theorem dX5_stands_20 : decode cX5_stands 20 = .ok (.ifnonnull 15, 3) := dk_199 0 15 (dk_at dksX5_stands_0 20 rfl rfl)
theorem dX5_stands_23 : decode cX5_stands 23 = .ok (.aload_n 0, 1) := dk_42 (dk_at dksX5_stands_0 23 rfl rfl)
theorem dX5_stands_24 : decode cX5_stands 24 = .ok (.getfield 22, 3) := dk_180 0 22 (dk_at dksX5_stands_1 0 rfl rfl)
theorem dX5_stands_27 : decode cX5_stands 27 = .ok (.iload_n 1, 1) := dk_27 (dk_at dksX5_stands_1 3 rfl rfl)
theorem dX5_stands_28 : decode cX5_stands 28 = .ok (.iaload, 1) := dk_46 (dk_at dksX5_stands_1 4 rfl rfl)
theorem dX5_stands_29 : decode cX5_stands 29 = .ok (.ifCond .le 28, 3) := dk_158 0 28 (dk_at dksX5_stands_1 5 rfl rfl)
theorem dX5_stands_32 : decode cX5_stands 32 = .ok (.goto 21, 3) := dk_167 0 21 (dk_at dksX5_stands_1 8 rfl rfl)
theorem dX5_stands_35 : decode cX5_stands 35 = .ok (.aload_n 0, 1) := dk_42 (dk_at dksX5_stands_1 11 rfl rfl)
theorem dX5_stands_36 : decode cX5_stands 36 = .ok (.aload_n 0, 1) := dk_42 (dk_at dksX5_stands_1 12 rfl rfl)
theorem dX5_stands_37 : decode cX5_stands 37 = .ok (.getfield 3, 3) := dk_180 0 3 (dk_at dksX5_stands_1 13 rfl rfl)
theorem dX5_stands_40 : decode cX5_stands 40 = .ok (.getfield 101, 3) := dk_180 0 101 (dk_at dksX5_stands_1 16 rfl rfl)
theorem dX5_stands_43 : decode cX5_stands 43 = .ok (.getfield 105, 3) := dk_180 0 105 (dk_at dksX5_stands_1 19 rfl rfl)
theorem dX5_stands_46 : decode cX5_stands 46 = .ok (.iload_n 1, 1) := dk_27 (dk_at dksX5_stands_1 22 rfl rfl)
theorem dX5_stands_47 : decode cX5_stands 47 = .ok (.invokevirtual 111, 3) := dk_182 0 111 (dk_at dksX5_stands_2 0 rfl rfl)
theorem dX5_stands_50 : decode cX5_stands 50 = .ok (.ifCond .eq 7, 3) := dk_153 0 7 (dk_at dksX5_stands_2 3 rfl rfl)
theorem dX5_stands_53 : decode cX5_stands 53 = .ok (.iconst 1, 1) := dk_4 (dk_at dksX5_stands_2 6 rfl rfl)
theorem dX5_stands_54 : decode cX5_stands 54 = .ok (.goto 4, 3) := dk_167 0 4 (dk_at dksX5_stands_2 7 rfl rfl)
theorem dX5_stands_57 : decode cX5_stands 57 = .ok (.iconst 0, 1) := dk_3 (dk_at dksX5_stands_2 10 rfl rfl)
theorem dX5_stands_58 : decode cX5_stands 58 = .ok (.ireturn, 1) := dk_172 (dk_at dksX5_stands_2 11 rfl rfl)
abbrev cX5_holds : ByteArray := prog_17_method_5_code
def yX5_holds : MethodName := ⟨RX5, "holds", "(LMendedThings$Test;I)Z"⟩
def dkwX5_holds_0 : List UInt8 := [42, 28, 182, 0, 76, 43, 42, 180, 0, 3, 180, 0, 50, 182, 0, 80, 172]
abbrev dktX5_holds_0 : List UInt8 := dkwX5_holds_0 ++ []
theorem dksX5_holds_0 : cX5_holds.data.toList.drop 0 = dktX5_holds_0 := by decide +kernel
theorem dX5_holds_0 : decode cX5_holds 0 = .ok (.aload_n 0, 1) := dk_42 (dk_at dksX5_holds_0 0 rfl rfl)
theorem dX5_holds_1 : decode cX5_holds 1 = .ok (.iload_n 2, 1) := dk_28 (dk_at dksX5_holds_0 1 rfl rfl)
theorem dX5_holds_2 : decode cX5_holds 2 = .ok (.invokevirtual 76, 3) := dk_182 0 76 (dk_at dksX5_holds_0 2 rfl rfl)
theorem dX5_holds_5 : decode cX5_holds 5 = .ok (.aload_n 1, 1) := dk_43 (dk_at dksX5_holds_0 5 rfl rfl)
theorem dX5_holds_6 : decode cX5_holds 6 = .ok (.aload_n 0, 1) := dk_42 (dk_at dksX5_holds_0 6 rfl rfl)
theorem dX5_holds_7 : decode cX5_holds 7 = .ok (.getfield 3, 3) := dk_180 0 3 (dk_at dksX5_holds_0 7 rfl rfl)
theorem dX5_holds_10 : decode cX5_holds 10 = .ok (.getfield 50, 3) := dk_180 0 50 (dk_at dksX5_holds_0 10 rfl rfl)
theorem dX5_holds_13 : decode cX5_holds 13 = .ok (.invokevirtual 80, 3) := dk_182 0 80 (dk_at dksX5_holds_0 13 rfl rfl)
theorem dX5_holds_16 : decode cX5_holds 16 = .ok (.ireturn, 1) := dk_172 (dk_at dksX5_holds_0 16 rfl rfl)
abbrev cX5_asks : ByteArray := prog_17_method_4_code
def yX5_asks : MethodName := ⟨RX5, "asks", "(I)V"⟩
def dkwX5_asks_6 : List UInt8 := [42, 180, 0, 3, 180, 0, 50, 180, 0, 54, 16, 6, 42, 180, 0, 25, 27, 46, 133, 80, 177]
abbrev dktX5_asks_6 : List UInt8 := dkwX5_asks_6 ++ []
def dkwX5_asks_5 : List UInt8 := [180, 0, 22, 27, 46, 133, 80, 42, 180, 0, 3, 180, 0, 50, 180, 0, 54, 8, 42, 180, 0, 40, 133, 80]
abbrev dktX5_asks_5 : List UInt8 := dkwX5_asks_5 ++ dktX5_asks_6
def dkwX5_asks_4 : List UInt8 := [180, 0, 54, 6, 42, 180, 0, 19, 27, 46, 133, 80, 42, 180, 0, 3, 180, 0, 50, 180, 0, 54, 7, 42]
abbrev dktX5_asks_4 : List UInt8 := dkwX5_asks_4 ++ dktX5_asks_5
def dkwX5_asks_3 : List UInt8 := [167, 0, 15, 42, 180, 0, 3, 27, 182, 0, 60, 180, 0, 75, 133, 80, 42, 180, 0, 3, 180, 0, 50]
abbrev dktX5_asks_3 : List UInt8 := dkwX5_asks_3 ++ dktX5_asks_4
def dkwX5_asks_2 : List UInt8 := [42, 180, 0, 3, 180, 0, 50, 180, 0, 54, 5, 27, 42, 180, 0, 47, 160, 0, 11, 42, 180, 0, 72, 133]
abbrev dktX5_asks_2 : List UInt8 := dkwX5_asks_2 ++ dktX5_asks_3
def dkwX5_asks_1 : List UInt8 := [42, 180, 0, 3, 180, 0, 50, 180, 0, 54, 4, 42, 180, 0, 3, 27, 182, 0, 60, 180, 0, 69, 133, 80]
abbrev dktX5_asks_1 : List UInt8 := dkwX5_asks_1 ++ dktX5_asks_2
def dkwX5_asks_0 : List UInt8 := [42, 180, 0, 3, 180, 0, 50, 180, 0, 54, 3, 42, 180, 0, 3, 27, 182, 0, 60, 180, 0, 64, 133, 80]
abbrev dktX5_asks_0 : List UInt8 := dkwX5_asks_0 ++ dktX5_asks_1
theorem dksX5_asks_0 : cX5_asks.data.toList.drop 0 = dktX5_asks_0 := by decide +kernel
theorem dksX5_asks_1 : cX5_asks.data.toList.drop 24 = dktX5_asks_1 := dk_seg dksX5_asks_0 24 rfl rfl
theorem dksX5_asks_2 : cX5_asks.data.toList.drop 48 = dktX5_asks_2 := dk_seg dksX5_asks_1 24 rfl rfl
theorem dksX5_asks_3 : cX5_asks.data.toList.drop 72 = dktX5_asks_3 := dk_seg dksX5_asks_2 24 rfl rfl
theorem dksX5_asks_4 : cX5_asks.data.toList.drop 95 = dktX5_asks_4 := dk_seg dksX5_asks_3 23 rfl rfl
theorem dksX5_asks_5 : cX5_asks.data.toList.drop 119 = dktX5_asks_5 := dk_seg dksX5_asks_4 24 rfl rfl
theorem dksX5_asks_6 : cX5_asks.data.toList.drop 143 = dktX5_asks_6 := dk_seg dksX5_asks_5 24 rfl rfl
theorem dX5_asks_0 : decode cX5_asks 0 = .ok (.aload_n 0, 1) := dk_42 (dk_at dksX5_asks_0 0 rfl rfl)
theorem dX5_asks_1 : decode cX5_asks 1 = .ok (.getfield 3, 3) := dk_180 0 3 (dk_at dksX5_asks_0 1 rfl rfl)
theorem dX5_asks_4 : decode cX5_asks 4 = .ok (.getfield 50, 3) := dk_180 0 50 (dk_at dksX5_asks_0 4 rfl rfl)
theorem dX5_asks_7 : decode cX5_asks 7 = .ok (.getfield 54, 3) := dk_180 0 54 (dk_at dksX5_asks_0 7 rfl rfl)
theorem dX5_asks_10 : decode cX5_asks 10 = .ok (.iconst 0, 1) := dk_3 (dk_at dksX5_asks_0 10 rfl rfl)
theorem dX5_asks_11 : decode cX5_asks 11 = .ok (.aload_n 0, 1) := dk_42 (dk_at dksX5_asks_0 11 rfl rfl)
theorem dX5_asks_12 : decode cX5_asks 12 = .ok (.getfield 3, 3) := dk_180 0 3 (dk_at dksX5_asks_0 12 rfl rfl)
theorem dX5_asks_15 : decode cX5_asks 15 = .ok (.iload_n 1, 1) := dk_27 (dk_at dksX5_asks_0 15 rfl rfl)
theorem dX5_asks_16 : decode cX5_asks 16 = .ok (.invokevirtual 60, 3) := dk_182 0 60 (dk_at dksX5_asks_0 16 rfl rfl)
theorem dX5_asks_19 : decode cX5_asks 19 = .ok (.getfield 64, 3) := dk_180 0 64 (dk_at dksX5_asks_0 19 rfl rfl)
theorem dX5_asks_22 : decode cX5_asks 22 = .ok (.i2l, 1) := dk_133 (dk_at dksX5_asks_0 22 rfl rfl)
theorem dX5_asks_23 : decode cX5_asks 23 = .ok (.lastore, 1) := dk_80 (dk_at dksX5_asks_0 23 rfl rfl)
theorem dX5_asks_24 : decode cX5_asks 24 = .ok (.aload_n 0, 1) := dk_42 (dk_at dksX5_asks_1 0 rfl rfl)
theorem dX5_asks_25 : decode cX5_asks 25 = .ok (.getfield 3, 3) := dk_180 0 3 (dk_at dksX5_asks_1 1 rfl rfl)
theorem dX5_asks_28 : decode cX5_asks 28 = .ok (.getfield 50, 3) := dk_180 0 50 (dk_at dksX5_asks_1 4 rfl rfl)
theorem dX5_asks_31 : decode cX5_asks 31 = .ok (.getfield 54, 3) := dk_180 0 54 (dk_at dksX5_asks_1 7 rfl rfl)
theorem dX5_asks_34 : decode cX5_asks 34 = .ok (.iconst 1, 1) := dk_4 (dk_at dksX5_asks_1 10 rfl rfl)
theorem dX5_asks_35 : decode cX5_asks 35 = .ok (.aload_n 0, 1) := dk_42 (dk_at dksX5_asks_1 11 rfl rfl)
theorem dX5_asks_36 : decode cX5_asks 36 = .ok (.getfield 3, 3) := dk_180 0 3 (dk_at dksX5_asks_1 12 rfl rfl)
theorem dX5_asks_39 : decode cX5_asks 39 = .ok (.iload_n 1, 1) := dk_27 (dk_at dksX5_asks_1 15 rfl rfl)
theorem dX5_asks_40 : decode cX5_asks 40 = .ok (.invokevirtual 60, 3) := dk_182 0 60 (dk_at dksX5_asks_1 16 rfl rfl)
theorem dX5_asks_43 : decode cX5_asks 43 = .ok (.getfield 69, 3) := dk_180 0 69 (dk_at dksX5_asks_1 19 rfl rfl)
theorem dX5_asks_46 : decode cX5_asks 46 = .ok (.i2l, 1) := dk_133 (dk_at dksX5_asks_1 22 rfl rfl)
theorem dX5_asks_47 : decode cX5_asks 47 = .ok (.lastore, 1) := dk_80 (dk_at dksX5_asks_1 23 rfl rfl)
theorem dX5_asks_48 : decode cX5_asks 48 = .ok (.aload_n 0, 1) := dk_42 (dk_at dksX5_asks_2 0 rfl rfl)
theorem dX5_asks_49 : decode cX5_asks 49 = .ok (.getfield 3, 3) := dk_180 0 3 (dk_at dksX5_asks_2 1 rfl rfl)
theorem dX5_asks_52 : decode cX5_asks 52 = .ok (.getfield 50, 3) := dk_180 0 50 (dk_at dksX5_asks_2 4 rfl rfl)
theorem dX5_asks_55 : decode cX5_asks 55 = .ok (.getfield 54, 3) := dk_180 0 54 (dk_at dksX5_asks_2 7 rfl rfl)
theorem dX5_asks_58 : decode cX5_asks 58 = .ok (.iconst 2, 1) := dk_5 (dk_at dksX5_asks_2 10 rfl rfl)
theorem dX5_asks_59 : decode cX5_asks 59 = .ok (.iload_n 1, 1) := dk_27 (dk_at dksX5_asks_2 11 rfl rfl)
theorem dX5_asks_60 : decode cX5_asks 60 = .ok (.aload_n 0, 1) := dk_42 (dk_at dksX5_asks_2 12 rfl rfl)
theorem dX5_asks_61 : decode cX5_asks 61 = .ok (.getfield 47, 3) := dk_180 0 47 (dk_at dksX5_asks_2 13 rfl rfl)
theorem dX5_asks_64 : decode cX5_asks 64 = .ok (.if_icmp .ne 11, 3) := dk_160 0 11 (dk_at dksX5_asks_2 16 rfl rfl)
theorem dX5_asks_67 : decode cX5_asks 67 = .ok (.aload_n 0, 1) := dk_42 (dk_at dksX5_asks_2 19 rfl rfl)
theorem dX5_asks_68 : decode cX5_asks 68 = .ok (.getfield 72, 3) := dk_180 0 72 (dk_at dksX5_asks_2 20 rfl rfl)
theorem dX5_asks_71 : decode cX5_asks 71 = .ok (.i2l, 1) := dk_133 (dk_at dksX5_asks_2 23 rfl rfl)
theorem dX5_asks_72 : decode cX5_asks 72 = .ok (.goto 15, 3) := dk_167 0 15 (dk_at dksX5_asks_3 0 rfl rfl)
theorem dX5_asks_75 : decode cX5_asks 75 = .ok (.aload_n 0, 1) := dk_42 (dk_at dksX5_asks_3 3 rfl rfl)
theorem dX5_asks_76 : decode cX5_asks 76 = .ok (.getfield 3, 3) := dk_180 0 3 (dk_at dksX5_asks_3 4 rfl rfl)
theorem dX5_asks_79 : decode cX5_asks 79 = .ok (.iload_n 1, 1) := dk_27 (dk_at dksX5_asks_3 7 rfl rfl)
theorem dX5_asks_80 : decode cX5_asks 80 = .ok (.invokevirtual 60, 3) := dk_182 0 60 (dk_at dksX5_asks_3 8 rfl rfl)
theorem dX5_asks_83 : decode cX5_asks 83 = .ok (.getfield 75, 3) := dk_180 0 75 (dk_at dksX5_asks_3 11 rfl rfl)
theorem dX5_asks_86 : decode cX5_asks 86 = .ok (.i2l, 1) := dk_133 (dk_at dksX5_asks_3 14 rfl rfl)
theorem dX5_asks_87 : decode cX5_asks 87 = .ok (.lastore, 1) := dk_80 (dk_at dksX5_asks_3 15 rfl rfl)
theorem dX5_asks_88 : decode cX5_asks 88 = .ok (.aload_n 0, 1) := dk_42 (dk_at dksX5_asks_3 16 rfl rfl)
theorem dX5_asks_89 : decode cX5_asks 89 = .ok (.getfield 3, 3) := dk_180 0 3 (dk_at dksX5_asks_3 17 rfl rfl)
theorem dX5_asks_92 : decode cX5_asks 92 = .ok (.getfield 50, 3) := dk_180 0 50 (dk_at dksX5_asks_3 20 rfl rfl)
theorem dX5_asks_95 : decode cX5_asks 95 = .ok (.getfield 54, 3) := dk_180 0 54 (dk_at dksX5_asks_4 0 rfl rfl)
theorem dX5_asks_98 : decode cX5_asks 98 = .ok (.iconst 3, 1) := dk_6 (dk_at dksX5_asks_4 3 rfl rfl)
theorem dX5_asks_99 : decode cX5_asks 99 = .ok (.aload_n 0, 1) := dk_42 (dk_at dksX5_asks_4 4 rfl rfl)
theorem dX5_asks_100 : decode cX5_asks 100 = .ok (.getfield 19, 3) := dk_180 0 19 (dk_at dksX5_asks_4 5 rfl rfl)
theorem dX5_asks_103 : decode cX5_asks 103 = .ok (.iload_n 1, 1) := dk_27 (dk_at dksX5_asks_4 8 rfl rfl)
theorem dX5_asks_104 : decode cX5_asks 104 = .ok (.iaload, 1) := dk_46 (dk_at dksX5_asks_4 9 rfl rfl)
theorem dX5_asks_105 : decode cX5_asks 105 = .ok (.i2l, 1) := dk_133 (dk_at dksX5_asks_4 10 rfl rfl)
theorem dX5_asks_106 : decode cX5_asks 106 = .ok (.lastore, 1) := dk_80 (dk_at dksX5_asks_4 11 rfl rfl)
theorem dX5_asks_107 : decode cX5_asks 107 = .ok (.aload_n 0, 1) := dk_42 (dk_at dksX5_asks_4 12 rfl rfl)
theorem dX5_asks_108 : decode cX5_asks 108 = .ok (.getfield 3, 3) := dk_180 0 3 (dk_at dksX5_asks_4 13 rfl rfl)
theorem dX5_asks_111 : decode cX5_asks 111 = .ok (.getfield 50, 3) := dk_180 0 50 (dk_at dksX5_asks_4 16 rfl rfl)
theorem dX5_asks_114 : decode cX5_asks 114 = .ok (.getfield 54, 3) := dk_180 0 54 (dk_at dksX5_asks_4 19 rfl rfl)
theorem dX5_asks_117 : decode cX5_asks 117 = .ok (.iconst 4, 1) := dk_7 (dk_at dksX5_asks_4 22 rfl rfl)
theorem dX5_asks_118 : decode cX5_asks 118 = .ok (.aload_n 0, 1) := dk_42 (dk_at dksX5_asks_4 23 rfl rfl)
theorem dX5_asks_119 : decode cX5_asks 119 = .ok (.getfield 22, 3) := dk_180 0 22 (dk_at dksX5_asks_5 0 rfl rfl)
theorem dX5_asks_122 : decode cX5_asks 122 = .ok (.iload_n 1, 1) := dk_27 (dk_at dksX5_asks_5 3 rfl rfl)
theorem dX5_asks_123 : decode cX5_asks 123 = .ok (.iaload, 1) := dk_46 (dk_at dksX5_asks_5 4 rfl rfl)
theorem dX5_asks_124 : decode cX5_asks 124 = .ok (.i2l, 1) := dk_133 (dk_at dksX5_asks_5 5 rfl rfl)
theorem dX5_asks_125 : decode cX5_asks 125 = .ok (.lastore, 1) := dk_80 (dk_at dksX5_asks_5 6 rfl rfl)
theorem dX5_asks_126 : decode cX5_asks 126 = .ok (.aload_n 0, 1) := dk_42 (dk_at dksX5_asks_5 7 rfl rfl)
theorem dX5_asks_127 : decode cX5_asks 127 = .ok (.getfield 3, 3) := dk_180 0 3 (dk_at dksX5_asks_5 8 rfl rfl)
theorem dX5_asks_130 : decode cX5_asks 130 = .ok (.getfield 50, 3) := dk_180 0 50 (dk_at dksX5_asks_5 11 rfl rfl)
theorem dX5_asks_133 : decode cX5_asks 133 = .ok (.getfield 54, 3) := dk_180 0 54 (dk_at dksX5_asks_5 14 rfl rfl)
theorem dX5_asks_136 : decode cX5_asks 136 = .ok (.iconst 5, 1) := dk_8 (dk_at dksX5_asks_5 17 rfl rfl)
theorem dX5_asks_137 : decode cX5_asks 137 = .ok (.aload_n 0, 1) := dk_42 (dk_at dksX5_asks_5 18 rfl rfl)
theorem dX5_asks_138 : decode cX5_asks 138 = .ok (.getfield 40, 3) := dk_180 0 40 (dk_at dksX5_asks_5 19 rfl rfl)
theorem dX5_asks_141 : decode cX5_asks 141 = .ok (.i2l, 1) := dk_133 (dk_at dksX5_asks_5 22 rfl rfl)
theorem dX5_asks_142 : decode cX5_asks 142 = .ok (.lastore, 1) := dk_80 (dk_at dksX5_asks_5 23 rfl rfl)
theorem dX5_asks_143 : decode cX5_asks 143 = .ok (.aload_n 0, 1) := dk_42 (dk_at dksX5_asks_6 0 rfl rfl)
theorem dX5_asks_144 : decode cX5_asks 144 = .ok (.getfield 3, 3) := dk_180 0 3 (dk_at dksX5_asks_6 1 rfl rfl)
theorem dX5_asks_147 : decode cX5_asks 147 = .ok (.getfield 50, 3) := dk_180 0 50 (dk_at dksX5_asks_6 4 rfl rfl)
theorem dX5_asks_150 : decode cX5_asks 150 = .ok (.getfield 54, 3) := dk_180 0 54 (dk_at dksX5_asks_6 7 rfl rfl)
theorem dX5_asks_153 : decode cX5_asks 153 = .ok (.bipush 6, 2) := dk_16 6 (dk_at dksX5_asks_6 10 rfl rfl)
theorem dX5_asks_155 : decode cX5_asks 155 = .ok (.aload_n 0, 1) := dk_42 (dk_at dksX5_asks_6 12 rfl rfl)
theorem dX5_asks_156 : decode cX5_asks 156 = .ok (.getfield 25, 3) := dk_180 0 25 (dk_at dksX5_asks_6 13 rfl rfl)
theorem dX5_asks_159 : decode cX5_asks 159 = .ok (.iload_n 1, 1) := dk_27 (dk_at dksX5_asks_6 16 rfl rfl)
theorem dX5_asks_160 : decode cX5_asks 160 = .ok (.iaload, 1) := dk_46 (dk_at dksX5_asks_6 17 rfl rfl)
theorem dX5_asks_161 : decode cX5_asks 161 = .ok (.i2l, 1) := dk_133 (dk_at dksX5_asks_6 18 rfl rfl)
theorem dX5_asks_162 : decode cX5_asks 162 = .ok (.lastore, 1) := dk_80 (dk_at dksX5_asks_6 19 rfl rfl)
theorem dX5_asks_163 : decode cX5_asks 163 = .ok (.return_, 1) := dk_177 (dk_at dksX5_asks_6 20 rfl rfl)
abbrev cX5_forged : ByteArray := prog_17_method_19_code
def yX5_forged : MethodName := ⟨RX5, "forged", "()I"⟩
def dkwX5_forged_1 : List UInt8 := [153, 0, 9, 4, 28, 120, 167, 0, 4, 3, 128, 60, 132, 2, 1, 167, 255, 223, 27, 172]
abbrev dktX5_forged_1 : List UInt8 := dkwX5_forged_1 ++ []
def dkwX5_forged_0 : List UInt8 := [3, 60, 3, 61, 28, 42, 180, 0, 3, 182, 0, 156, 162, 0, 28, 27, 42, 180, 0, 28, 28, 51]
abbrev dktX5_forged_0 : List UInt8 := dkwX5_forged_0 ++ dktX5_forged_1
theorem dksX5_forged_0 : cX5_forged.data.toList.drop 0 = dktX5_forged_0 := by decide +kernel
theorem dksX5_forged_1 : cX5_forged.data.toList.drop 22 = dktX5_forged_1 := dk_seg dksX5_forged_0 22 rfl rfl
theorem dX5_forged_0 : decode cX5_forged 0 = .ok (.iconst 0, 1) := dk_3 (dk_at dksX5_forged_0 0 rfl rfl)
theorem dX5_forged_1 : decode cX5_forged 1 = .ok (.istore_n 1, 1) := dk_60 (dk_at dksX5_forged_0 1 rfl rfl)
theorem dX5_forged_2 : decode cX5_forged 2 = .ok (.iconst 0, 1) := dk_3 (dk_at dksX5_forged_0 2 rfl rfl)
theorem dX5_forged_3 : decode cX5_forged 3 = .ok (.istore_n 2, 1) := dk_61 (dk_at dksX5_forged_0 3 rfl rfl)
theorem dX5_forged_4 : decode cX5_forged 4 = .ok (.iload_n 2, 1) := dk_28 (dk_at dksX5_forged_0 4 rfl rfl)
theorem dX5_forged_5 : decode cX5_forged 5 = .ok (.aload_n 0, 1) := dk_42 (dk_at dksX5_forged_0 5 rfl rfl)
theorem dX5_forged_6 : decode cX5_forged 6 = .ok (.getfield 3, 3) := dk_180 0 3 (dk_at dksX5_forged_0 6 rfl rfl)
theorem dX5_forged_9 : decode cX5_forged 9 = .ok (.invokevirtual 156, 3) := dk_182 0 156 (dk_at dksX5_forged_0 9 rfl rfl)
theorem dX5_forged_12 : decode cX5_forged 12 = .ok (.if_icmp .ge 28, 3) := dk_162 0 28 (dk_at dksX5_forged_0 12 rfl rfl)
theorem dX5_forged_15 : decode cX5_forged 15 = .ok (.iload_n 1, 1) := dk_27 (dk_at dksX5_forged_0 15 rfl rfl)
theorem dX5_forged_16 : decode cX5_forged 16 = .ok (.aload_n 0, 1) := dk_42 (dk_at dksX5_forged_0 16 rfl rfl)
theorem dX5_forged_17 : decode cX5_forged 17 = .ok (.getfield 28, 3) := dk_180 0 28 (dk_at dksX5_forged_0 17 rfl rfl)
theorem dX5_forged_20 : decode cX5_forged 20 = .ok (.iload_n 2, 1) := dk_28 (dk_at dksX5_forged_0 20 rfl rfl)
theorem dX5_forged_21 : decode cX5_forged 21 = .ok (.baload, 1) := dk_51 (dk_at dksX5_forged_0 21 rfl rfl)
theorem dX5_forged_22 : decode cX5_forged 22 = .ok (.ifCond .eq 9, 3) := dk_153 0 9 (dk_at dksX5_forged_1 0 rfl rfl)
theorem dX5_forged_25 : decode cX5_forged 25 = .ok (.iconst 1, 1) := dk_4 (dk_at dksX5_forged_1 3 rfl rfl)
theorem dX5_forged_26 : decode cX5_forged 26 = .ok (.iload_n 2, 1) := dk_28 (dk_at dksX5_forged_1 4 rfl rfl)
theorem dX5_forged_27 : decode cX5_forged 27 = .ok (.ishl, 1) := dk_120 (dk_at dksX5_forged_1 5 rfl rfl)
theorem dX5_forged_28 : decode cX5_forged 28 = .ok (.goto 4, 3) := dk_167 0 4 (dk_at dksX5_forged_1 6 rfl rfl)
theorem dX5_forged_31 : decode cX5_forged 31 = .ok (.iconst 0, 1) := dk_3 (dk_at dksX5_forged_1 9 rfl rfl)
theorem dX5_forged_32 : decode cX5_forged 32 = .ok (.ior, 1) := dk_128 (dk_at dksX5_forged_1 10 rfl rfl)
theorem dX5_forged_33 : decode cX5_forged 33 = .ok (.istore_n 1, 1) := dk_60 (dk_at dksX5_forged_1 11 rfl rfl)
theorem dX5_forged_34 : decode cX5_forged 34 = .ok (.iinc 2 1, 3) := dk_132 2 1 (dk_at dksX5_forged_1 12 rfl rfl)
theorem dX5_forged_37 : decode cX5_forged 37 = .ok (.goto (-33), 3) := dk_167 255 223 (dk_at dksX5_forged_1 15 rfl rfl)
theorem dX5_forged_40 : decode cX5_forged 40 = .ok (.iload_n 1, 1) := dk_27 (dk_at dksX5_forged_1 18 rfl rfl)
theorem dX5_forged_41 : decode cX5_forged 41 = .ok (.ireturn, 1) := dk_172 (dk_at dksX5_forged_1 19 rfl rfl)
abbrev cX5_takes : ByteArray := prog_17_method_8_code
def yX5_takes : MethodName := ⟨RX5, "takes", "(II)I"⟩
def dkwX5_takes_1 : List UInt8 := [180, 0, 3, 180, 0, 101, 180, 0, 114, 27, 28, 182, 0, 120, 184, 0, 124, 184, 0, 130, 136, 172]
abbrev dktX5_takes_1 : List UInt8 := dkwX5_takes_1 ++ []
def dkwX5_takes_0 : List UInt8 := [42, 180, 0, 3, 180, 0, 101, 180, 0, 114, 199, 0, 7, 7, 167, 0, 30, 10, 20, 0, 118, 42, 42]
abbrev dktX5_takes_0 : List UInt8 := dkwX5_takes_0 ++ dktX5_takes_1
theorem dksX5_takes_0 : cX5_takes.data.toList.drop 0 = dktX5_takes_0 := by decide +kernel
theorem dksX5_takes_1 : cX5_takes.data.toList.drop 23 = dktX5_takes_1 := dk_seg dksX5_takes_0 23 rfl rfl
theorem dX5_takes_0 : decode cX5_takes 0 = .ok (.aload_n 0, 1) := dk_42 (dk_at dksX5_takes_0 0 rfl rfl)
theorem dX5_takes_1 : decode cX5_takes 1 = .ok (.getfield 3, 3) := dk_180 0 3 (dk_at dksX5_takes_0 1 rfl rfl)
theorem dX5_takes_4 : decode cX5_takes 4 = .ok (.getfield 101, 3) := dk_180 0 101 (dk_at dksX5_takes_0 4 rfl rfl)
theorem dX5_takes_7 : decode cX5_takes 7 = .ok (.getfield 114, 3) := dk_180 0 114 (dk_at dksX5_takes_0 7 rfl rfl)
theorem dX5_takes_10 : decode cX5_takes 10 = .ok (.ifnonnull 7, 3) := dk_199 0 7 (dk_at dksX5_takes_0 10 rfl rfl)
theorem dX5_takes_13 : decode cX5_takes 13 = .ok (.iconst 4, 1) := dk_7 (dk_at dksX5_takes_0 13 rfl rfl)
theorem dX5_takes_14 : decode cX5_takes 14 = .ok (.goto 30, 3) := dk_167 0 30 (dk_at dksX5_takes_0 14 rfl rfl)
theorem dX5_takes_17 : decode cX5_takes 17 = .ok (.lconst 1, 1) := dk_10 (dk_at dksX5_takes_0 17 rfl rfl)
theorem dX5_takes_18 : decode cX5_takes 18 = .ok (.ldc2_w 118, 3) := dk_20 0 118 (dk_at dksX5_takes_0 18 rfl rfl)
theorem dX5_takes_21 : decode cX5_takes 21 = .ok (.aload_n 0, 1) := dk_42 (dk_at dksX5_takes_0 21 rfl rfl)
theorem dX5_takes_22 : decode cX5_takes 22 = .ok (.aload_n 0, 1) := dk_42 (dk_at dksX5_takes_0 22 rfl rfl)
theorem dX5_takes_23 : decode cX5_takes 23 = .ok (.getfield 3, 3) := dk_180 0 3 (dk_at dksX5_takes_1 0 rfl rfl)
theorem dX5_takes_26 : decode cX5_takes 26 = .ok (.getfield 101, 3) := dk_180 0 101 (dk_at dksX5_takes_1 3 rfl rfl)
theorem dX5_takes_29 : decode cX5_takes 29 = .ok (.getfield 114, 3) := dk_180 0 114 (dk_at dksX5_takes_1 6 rfl rfl)
theorem dX5_takes_32 : decode cX5_takes 32 = .ok (.iload_n 1, 1) := dk_27 (dk_at dksX5_takes_1 9 rfl rfl)
theorem dX5_takes_33 : decode cX5_takes 33 = .ok (.iload_n 2, 1) := dk_28 (dk_at dksX5_takes_1 10 rfl rfl)
theorem dX5_takes_34 : decode cX5_takes 34 = .ok (.invokevirtual 120, 3) := dk_182 0 120 (dk_at dksX5_takes_1 11 rfl rfl)
theorem dX5_takes_37 : decode cX5_takes 37 = .ok (.invokestatic 124, 3) := dk_184 0 124 (dk_at dksX5_takes_1 14 rfl rfl)
theorem dX5_takes_40 : decode cX5_takes 40 = .ok (.invokestatic 130, 3) := dk_184 0 130 (dk_at dksX5_takes_1 17 rfl rfl)
theorem dX5_takes_43 : decode cX5_takes 43 = .ok (.l2i, 1) := dk_136 (dk_at dksX5_takes_1 20 rfl rfl)
theorem dX5_takes_44 : decode cX5_takes 44 = .ok (.ireturn, 1) := dk_172 (dk_at dksX5_takes_1 21 rfl rfl)
abbrev cX5_sum : ByteArray := prog_17_method_6_code
def yX5_sum : MethodName := ⟨RX5, "sum", "(LMendedThings$Value;II)J"⟩
def dkwX5_sum_2 : List UInt8 := [182, 0, 95, 173]
abbrev dktX5_sum_2 : List UInt8 := dkwX5_sum_2 ++ []
def dkwX5_sum_1 : List UInt8 := [167, 0, 15, 42, 180, 0, 3, 29, 182, 0, 86, 180, 0, 90, 133, 80, 43, 42, 180, 0, 3, 180, 0, 50]
abbrev dktX5_sum_1 : List UInt8 := dkwX5_sum_1 ++ dktX5_sum_2
def dkwX5_sum_0 : List UInt8 := [42, 28, 182, 0, 76, 42, 180, 0, 3, 180, 0, 50, 180, 0, 54, 16, 7, 29, 2, 160, 0, 7, 9]
abbrev dktX5_sum_0 : List UInt8 := dkwX5_sum_0 ++ dktX5_sum_1
theorem dksX5_sum_0 : cX5_sum.data.toList.drop 0 = dktX5_sum_0 := by decide +kernel
theorem dksX5_sum_1 : cX5_sum.data.toList.drop 23 = dktX5_sum_1 := dk_seg dksX5_sum_0 23 rfl rfl
theorem dksX5_sum_2 : cX5_sum.data.toList.drop 47 = dktX5_sum_2 := dk_seg dksX5_sum_1 24 rfl rfl
theorem dX5_sum_0 : decode cX5_sum 0 = .ok (.aload_n 0, 1) := dk_42 (dk_at dksX5_sum_0 0 rfl rfl)
theorem dX5_sum_1 : decode cX5_sum 1 = .ok (.iload_n 2, 1) := dk_28 (dk_at dksX5_sum_0 1 rfl rfl)
theorem dX5_sum_2 : decode cX5_sum 2 = .ok (.invokevirtual 76, 3) := dk_182 0 76 (dk_at dksX5_sum_0 2 rfl rfl)
theorem dX5_sum_5 : decode cX5_sum 5 = .ok (.aload_n 0, 1) := dk_42 (dk_at dksX5_sum_0 5 rfl rfl)
theorem dX5_sum_6 : decode cX5_sum 6 = .ok (.getfield 3, 3) := dk_180 0 3 (dk_at dksX5_sum_0 6 rfl rfl)
theorem dX5_sum_9 : decode cX5_sum 9 = .ok (.getfield 50, 3) := dk_180 0 50 (dk_at dksX5_sum_0 9 rfl rfl)
theorem dX5_sum_12 : decode cX5_sum 12 = .ok (.getfield 54, 3) := dk_180 0 54 (dk_at dksX5_sum_0 12 rfl rfl)
theorem dX5_sum_15 : decode cX5_sum 15 = .ok (.bipush 7, 2) := dk_16 7 (dk_at dksX5_sum_0 15 rfl rfl)
theorem dX5_sum_17 : decode cX5_sum 17 = .ok (.iload_n 3, 1) := dk_29 (dk_at dksX5_sum_0 17 rfl rfl)
theorem dX5_sum_18 : decode cX5_sum 18 = .ok (.iconst (-1), 1) := dk_2 (dk_at dksX5_sum_0 18 rfl rfl)
theorem dX5_sum_19 : decode cX5_sum 19 = .ok (.if_icmp .ne 7, 3) := dk_160 0 7 (dk_at dksX5_sum_0 19 rfl rfl)
theorem dX5_sum_22 : decode cX5_sum 22 = .ok (.lconst 0, 1) := dk_9 (dk_at dksX5_sum_0 22 rfl rfl)
theorem dX5_sum_23 : decode cX5_sum 23 = .ok (.goto 15, 3) := dk_167 0 15 (dk_at dksX5_sum_1 0 rfl rfl)
theorem dX5_sum_26 : decode cX5_sum 26 = .ok (.aload_n 0, 1) := dk_42 (dk_at dksX5_sum_1 3 rfl rfl)
theorem dX5_sum_27 : decode cX5_sum 27 = .ok (.getfield 3, 3) := dk_180 0 3 (dk_at dksX5_sum_1 4 rfl rfl)
theorem dX5_sum_30 : decode cX5_sum 30 = .ok (.iload_n 3, 1) := dk_29 (dk_at dksX5_sum_1 7 rfl rfl)
theorem dX5_sum_31 : decode cX5_sum 31 = .ok (.invokevirtual 86, 3) := dk_182 0 86 (dk_at dksX5_sum_1 8 rfl rfl)
theorem dX5_sum_34 : decode cX5_sum 34 = .ok (.getfield 90, 3) := dk_180 0 90 (dk_at dksX5_sum_1 11 rfl rfl)
theorem dX5_sum_37 : decode cX5_sum 37 = .ok (.i2l, 1) := dk_133 (dk_at dksX5_sum_1 14 rfl rfl)
theorem dX5_sum_38 : decode cX5_sum 38 = .ok (.lastore, 1) := dk_80 (dk_at dksX5_sum_1 15 rfl rfl)
theorem dX5_sum_39 : decode cX5_sum 39 = .ok (.aload_n 1, 1) := dk_43 (dk_at dksX5_sum_1 16 rfl rfl)
theorem dX5_sum_40 : decode cX5_sum 40 = .ok (.aload_n 0, 1) := dk_42 (dk_at dksX5_sum_1 17 rfl rfl)
theorem dX5_sum_41 : decode cX5_sum 41 = .ok (.getfield 3, 3) := dk_180 0 3 (dk_at dksX5_sum_1 18 rfl rfl)
theorem dX5_sum_44 : decode cX5_sum 44 = .ok (.getfield 50, 3) := dk_180 0 50 (dk_at dksX5_sum_1 21 rfl rfl)
theorem dX5_sum_47 : decode cX5_sum 47 = .ok (.invokevirtual 95, 3) := dk_182 0 95 (dk_at dksX5_sum_2 0 rfl rfl)
theorem dX5_sum_50 : decode cX5_sum 50 = .ok (.lreturn, 1) := dk_173 (dk_at dksX5_sum_2 3 rfl rfl)
abbrev cX5_fine : ByteArray := prog_17_method_9_code
def yX5_fine : MethodName := ⟨RX5, "fine", "(II)I"⟩
def dkwX5_fine_2 : List UInt8 := [184, 0, 124, 184, 0, 130, 136, 172]
abbrev dktX5_fine_2 : List UInt8 := dkwX5_fine_2 ++ []
def dkwX5_fine_1 : List UInt8 := [167, 0, 30, 9, 20, 0, 118, 42, 42, 180, 0, 3, 180, 0, 101, 180, 0, 133, 27, 28, 182, 0, 120]
abbrev dktX5_fine_1 : List UInt8 := dkwX5_fine_1 ++ dktX5_fine_2
def dkwX5_fine_0 : List UInt8 := [42, 180, 0, 3, 180, 0, 101, 180, 0, 133, 199, 0, 17, 42, 180, 0, 3, 28, 182, 0, 86, 180, 0, 90]
abbrev dktX5_fine_0 : List UInt8 := dkwX5_fine_0 ++ dktX5_fine_1
theorem dksX5_fine_0 : cX5_fine.data.toList.drop 0 = dktX5_fine_0 := by decide +kernel
theorem dksX5_fine_1 : cX5_fine.data.toList.drop 24 = dktX5_fine_1 := dk_seg dksX5_fine_0 24 rfl rfl
theorem dksX5_fine_2 : cX5_fine.data.toList.drop 47 = dktX5_fine_2 := dk_seg dksX5_fine_1 23 rfl rfl
theorem dX5_fine_0 : decode cX5_fine 0 = .ok (.aload_n 0, 1) := dk_42 (dk_at dksX5_fine_0 0 rfl rfl)
theorem dX5_fine_1 : decode cX5_fine 1 = .ok (.getfield 3, 3) := dk_180 0 3 (dk_at dksX5_fine_0 1 rfl rfl)
theorem dX5_fine_4 : decode cX5_fine 4 = .ok (.getfield 101, 3) := dk_180 0 101 (dk_at dksX5_fine_0 4 rfl rfl)
theorem dX5_fine_7 : decode cX5_fine 7 = .ok (.getfield 133, 3) := dk_180 0 133 (dk_at dksX5_fine_0 7 rfl rfl)
theorem dX5_fine_10 : decode cX5_fine 10 = .ok (.ifnonnull 17, 3) := dk_199 0 17 (dk_at dksX5_fine_0 10 rfl rfl)
theorem dX5_fine_13 : decode cX5_fine 13 = .ok (.aload_n 0, 1) := dk_42 (dk_at dksX5_fine_0 13 rfl rfl)
theorem dX5_fine_14 : decode cX5_fine 14 = .ok (.getfield 3, 3) := dk_180 0 3 (dk_at dksX5_fine_0 14 rfl rfl)
theorem dX5_fine_17 : decode cX5_fine 17 = .ok (.iload_n 2, 1) := dk_28 (dk_at dksX5_fine_0 17 rfl rfl)
theorem dX5_fine_18 : decode cX5_fine 18 = .ok (.invokevirtual 86, 3) := dk_182 0 86 (dk_at dksX5_fine_0 18 rfl rfl)
theorem dX5_fine_21 : decode cX5_fine 21 = .ok (.getfield 90, 3) := dk_180 0 90 (dk_at dksX5_fine_0 21 rfl rfl)
theorem dX5_fine_24 : decode cX5_fine 24 = .ok (.goto 30, 3) := dk_167 0 30 (dk_at dksX5_fine_1 0 rfl rfl)
theorem dX5_fine_27 : decode cX5_fine 27 = .ok (.lconst 0, 1) := dk_9 (dk_at dksX5_fine_1 3 rfl rfl)
theorem dX5_fine_28 : decode cX5_fine 28 = .ok (.ldc2_w 118, 3) := dk_20 0 118 (dk_at dksX5_fine_1 4 rfl rfl)
theorem dX5_fine_31 : decode cX5_fine 31 = .ok (.aload_n 0, 1) := dk_42 (dk_at dksX5_fine_1 7 rfl rfl)
theorem dX5_fine_32 : decode cX5_fine 32 = .ok (.aload_n 0, 1) := dk_42 (dk_at dksX5_fine_1 8 rfl rfl)
theorem dX5_fine_33 : decode cX5_fine 33 = .ok (.getfield 3, 3) := dk_180 0 3 (dk_at dksX5_fine_1 9 rfl rfl)
theorem dX5_fine_36 : decode cX5_fine 36 = .ok (.getfield 101, 3) := dk_180 0 101 (dk_at dksX5_fine_1 12 rfl rfl)
theorem dX5_fine_39 : decode cX5_fine 39 = .ok (.getfield 133, 3) := dk_180 0 133 (dk_at dksX5_fine_1 15 rfl rfl)
theorem dX5_fine_42 : decode cX5_fine 42 = .ok (.iload_n 1, 1) := dk_27 (dk_at dksX5_fine_1 18 rfl rfl)
theorem dX5_fine_43 : decode cX5_fine 43 = .ok (.iload_n 2, 1) := dk_28 (dk_at dksX5_fine_1 19 rfl rfl)
theorem dX5_fine_44 : decode cX5_fine 44 = .ok (.invokevirtual 120, 3) := dk_182 0 120 (dk_at dksX5_fine_1 20 rfl rfl)
theorem dX5_fine_47 : decode cX5_fine 47 = .ok (.invokestatic 124, 3) := dk_184 0 124 (dk_at dksX5_fine_2 0 rfl rfl)
theorem dX5_fine_50 : decode cX5_fine 50 = .ok (.invokestatic 130, 3) := dk_184 0 130 (dk_at dksX5_fine_2 3 rfl rfl)
theorem dX5_fine_53 : decode cX5_fine 53 = .ok (.l2i, 1) := dk_136 (dk_at dksX5_fine_2 6 rfl rfl)
theorem dX5_fine_54 : decode cX5_fine 54 = .ok (.ireturn, 1) := dk_172 (dk_at dksX5_fine_2 7 rfl rfl)
abbrev cX5_copy : ByteArray := prog_17_method_3_code
def yX5_copy : MethodName := ⟨RX5, "copy", "(LMendedThings$State;)LMendedThings$State;"⟩
def dkwX5_copy_5 : List UInt8 := [43, 180, 0, 34, 28, 50, 29, 46, 79, 132, 3, 1, 167, 255, 232, 132, 2, 1, 167, 255, 216, 42, 176]
abbrev dktX5_copy_5 : List UInt8 := dkwX5_copy_5 ++ []
def dkwX5_copy_4 : List UInt8 := [3, 61, 28, 42, 180, 0, 44, 162, 0, 38, 3, 62, 29, 6, 162, 0, 25, 42, 180, 0, 34, 28, 50, 29]
abbrev dktX5_copy_4 : List UInt8 := dkwX5_copy_4 ++ dktX5_copy_5
def dkwX5_copy_3 : List UInt8 := [180, 0, 25, 28, 46, 79, 42, 180, 0, 28, 28, 43, 180, 0, 28, 28, 51, 84, 132, 2, 1, 167, 255, 187]
abbrev dktX5_copy_3 : List UInt8 := dkwX5_copy_3 ++ dktX5_copy_4
def dkwX5_copy_2 : List UInt8 := [180, 0, 19, 28, 46, 79, 42, 180, 0, 22, 28, 43, 180, 0, 22, 28, 46, 79, 42, 180, 0, 25, 28, 43]
abbrev dktX5_copy_2 : List UInt8 := dkwX5_copy_2 ++ dktX5_copy_3
def dkwX5_copy_1 : List UInt8 := [16, 8, 162, 0, 69, 42, 180, 0, 15, 28, 43, 180, 0, 15, 28, 46, 79, 42, 180, 0, 19, 28, 43]
abbrev dktX5_copy_1 : List UInt8 := dkwX5_copy_1 ++ dktX5_copy_2
def dkwX5_copy_0 : List UInt8 := [42, 43, 180, 0, 40, 181, 0, 40, 42, 43, 180, 0, 44, 181, 0, 44, 42, 2, 181, 0, 47, 3, 61, 28]
abbrev dktX5_copy_0 : List UInt8 := dkwX5_copy_0 ++ dktX5_copy_1
theorem dksX5_copy_0 : cX5_copy.data.toList.drop 0 = dktX5_copy_0 := by decide +kernel
theorem dksX5_copy_1 : cX5_copy.data.toList.drop 24 = dktX5_copy_1 := dk_seg dksX5_copy_0 24 rfl rfl
theorem dksX5_copy_2 : cX5_copy.data.toList.drop 47 = dktX5_copy_2 := dk_seg dksX5_copy_1 23 rfl rfl
theorem dksX5_copy_3 : cX5_copy.data.toList.drop 71 = dktX5_copy_3 := dk_seg dksX5_copy_2 24 rfl rfl
theorem dksX5_copy_4 : cX5_copy.data.toList.drop 95 = dktX5_copy_4 := dk_seg dksX5_copy_3 24 rfl rfl
theorem dksX5_copy_5 : cX5_copy.data.toList.drop 119 = dktX5_copy_5 := dk_seg dksX5_copy_4 24 rfl rfl
theorem dX5_copy_0 : decode cX5_copy 0 = .ok (.aload_n 0, 1) := dk_42 (dk_at dksX5_copy_0 0 rfl rfl)
theorem dX5_copy_1 : decode cX5_copy 1 = .ok (.aload_n 1, 1) := dk_43 (dk_at dksX5_copy_0 1 rfl rfl)
theorem dX5_copy_2 : decode cX5_copy 2 = .ok (.getfield 40, 3) := dk_180 0 40 (dk_at dksX5_copy_0 2 rfl rfl)
theorem dX5_copy_5 : decode cX5_copy 5 = .ok (.putfield 40, 3) := dk_181 0 40 (dk_at dksX5_copy_0 5 rfl rfl)
theorem dX5_copy_8 : decode cX5_copy 8 = .ok (.aload_n 0, 1) := dk_42 (dk_at dksX5_copy_0 8 rfl rfl)
theorem dX5_copy_9 : decode cX5_copy 9 = .ok (.aload_n 1, 1) := dk_43 (dk_at dksX5_copy_0 9 rfl rfl)
theorem dX5_copy_10 : decode cX5_copy 10 = .ok (.getfield 44, 3) := dk_180 0 44 (dk_at dksX5_copy_0 10 rfl rfl)
theorem dX5_copy_13 : decode cX5_copy 13 = .ok (.putfield 44, 3) := dk_181 0 44 (dk_at dksX5_copy_0 13 rfl rfl)
theorem dX5_copy_16 : decode cX5_copy 16 = .ok (.aload_n 0, 1) := dk_42 (dk_at dksX5_copy_0 16 rfl rfl)
theorem dX5_copy_17 : decode cX5_copy 17 = .ok (.iconst (-1), 1) := dk_2 (dk_at dksX5_copy_0 17 rfl rfl)
theorem dX5_copy_18 : decode cX5_copy 18 = .ok (.putfield 47, 3) := dk_181 0 47 (dk_at dksX5_copy_0 18 rfl rfl)
theorem dX5_copy_21 : decode cX5_copy 21 = .ok (.iconst 0, 1) := dk_3 (dk_at dksX5_copy_0 21 rfl rfl)
theorem dX5_copy_22 : decode cX5_copy 22 = .ok (.istore_n 2, 1) := dk_61 (dk_at dksX5_copy_0 22 rfl rfl)
theorem dX5_copy_23 : decode cX5_copy 23 = .ok (.iload_n 2, 1) := dk_28 (dk_at dksX5_copy_0 23 rfl rfl)
theorem dX5_copy_24 : decode cX5_copy 24 = .ok (.bipush 8, 2) := dk_16 8 (dk_at dksX5_copy_1 0 rfl rfl)
theorem dX5_copy_26 : decode cX5_copy 26 = .ok (.if_icmp .ge 69, 3) := dk_162 0 69 (dk_at dksX5_copy_1 2 rfl rfl)
theorem dX5_copy_29 : decode cX5_copy 29 = .ok (.aload_n 0, 1) := dk_42 (dk_at dksX5_copy_1 5 rfl rfl)
theorem dX5_copy_30 : decode cX5_copy 30 = .ok (.getfield 15, 3) := dk_180 0 15 (dk_at dksX5_copy_1 6 rfl rfl)
theorem dX5_copy_33 : decode cX5_copy 33 = .ok (.iload_n 2, 1) := dk_28 (dk_at dksX5_copy_1 9 rfl rfl)
theorem dX5_copy_34 : decode cX5_copy 34 = .ok (.aload_n 1, 1) := dk_43 (dk_at dksX5_copy_1 10 rfl rfl)
theorem dX5_copy_35 : decode cX5_copy 35 = .ok (.getfield 15, 3) := dk_180 0 15 (dk_at dksX5_copy_1 11 rfl rfl)
theorem dX5_copy_38 : decode cX5_copy 38 = .ok (.iload_n 2, 1) := dk_28 (dk_at dksX5_copy_1 14 rfl rfl)
theorem dX5_copy_39 : decode cX5_copy 39 = .ok (.iaload, 1) := dk_46 (dk_at dksX5_copy_1 15 rfl rfl)
theorem dX5_copy_40 : decode cX5_copy 40 = .ok (.iastore, 1) := dk_79 (dk_at dksX5_copy_1 16 rfl rfl)
theorem dX5_copy_41 : decode cX5_copy 41 = .ok (.aload_n 0, 1) := dk_42 (dk_at dksX5_copy_1 17 rfl rfl)
theorem dX5_copy_42 : decode cX5_copy 42 = .ok (.getfield 19, 3) := dk_180 0 19 (dk_at dksX5_copy_1 18 rfl rfl)
theorem dX5_copy_45 : decode cX5_copy 45 = .ok (.iload_n 2, 1) := dk_28 (dk_at dksX5_copy_1 21 rfl rfl)
theorem dX5_copy_46 : decode cX5_copy 46 = .ok (.aload_n 1, 1) := dk_43 (dk_at dksX5_copy_1 22 rfl rfl)
theorem dX5_copy_47 : decode cX5_copy 47 = .ok (.getfield 19, 3) := dk_180 0 19 (dk_at dksX5_copy_2 0 rfl rfl)
theorem dX5_copy_50 : decode cX5_copy 50 = .ok (.iload_n 2, 1) := dk_28 (dk_at dksX5_copy_2 3 rfl rfl)
theorem dX5_copy_51 : decode cX5_copy 51 = .ok (.iaload, 1) := dk_46 (dk_at dksX5_copy_2 4 rfl rfl)
theorem dX5_copy_52 : decode cX5_copy 52 = .ok (.iastore, 1) := dk_79 (dk_at dksX5_copy_2 5 rfl rfl)
theorem dX5_copy_53 : decode cX5_copy 53 = .ok (.aload_n 0, 1) := dk_42 (dk_at dksX5_copy_2 6 rfl rfl)
theorem dX5_copy_54 : decode cX5_copy 54 = .ok (.getfield 22, 3) := dk_180 0 22 (dk_at dksX5_copy_2 7 rfl rfl)
theorem dX5_copy_57 : decode cX5_copy 57 = .ok (.iload_n 2, 1) := dk_28 (dk_at dksX5_copy_2 10 rfl rfl)
theorem dX5_copy_58 : decode cX5_copy 58 = .ok (.aload_n 1, 1) := dk_43 (dk_at dksX5_copy_2 11 rfl rfl)
theorem dX5_copy_59 : decode cX5_copy 59 = .ok (.getfield 22, 3) := dk_180 0 22 (dk_at dksX5_copy_2 12 rfl rfl)
theorem dX5_copy_62 : decode cX5_copy 62 = .ok (.iload_n 2, 1) := dk_28 (dk_at dksX5_copy_2 15 rfl rfl)
theorem dX5_copy_63 : decode cX5_copy 63 = .ok (.iaload, 1) := dk_46 (dk_at dksX5_copy_2 16 rfl rfl)
theorem dX5_copy_64 : decode cX5_copy 64 = .ok (.iastore, 1) := dk_79 (dk_at dksX5_copy_2 17 rfl rfl)
theorem dX5_copy_65 : decode cX5_copy 65 = .ok (.aload_n 0, 1) := dk_42 (dk_at dksX5_copy_2 18 rfl rfl)
theorem dX5_copy_66 : decode cX5_copy 66 = .ok (.getfield 25, 3) := dk_180 0 25 (dk_at dksX5_copy_2 19 rfl rfl)
theorem dX5_copy_69 : decode cX5_copy 69 = .ok (.iload_n 2, 1) := dk_28 (dk_at dksX5_copy_2 22 rfl rfl)
theorem dX5_copy_70 : decode cX5_copy 70 = .ok (.aload_n 1, 1) := dk_43 (dk_at dksX5_copy_2 23 rfl rfl)
theorem dX5_copy_71 : decode cX5_copy 71 = .ok (.getfield 25, 3) := dk_180 0 25 (dk_at dksX5_copy_3 0 rfl rfl)
theorem dX5_copy_74 : decode cX5_copy 74 = .ok (.iload_n 2, 1) := dk_28 (dk_at dksX5_copy_3 3 rfl rfl)
theorem dX5_copy_75 : decode cX5_copy 75 = .ok (.iaload, 1) := dk_46 (dk_at dksX5_copy_3 4 rfl rfl)
theorem dX5_copy_76 : decode cX5_copy 76 = .ok (.iastore, 1) := dk_79 (dk_at dksX5_copy_3 5 rfl rfl)
theorem dX5_copy_77 : decode cX5_copy 77 = .ok (.aload_n 0, 1) := dk_42 (dk_at dksX5_copy_3 6 rfl rfl)
theorem dX5_copy_78 : decode cX5_copy 78 = .ok (.getfield 28, 3) := dk_180 0 28 (dk_at dksX5_copy_3 7 rfl rfl)
theorem dX5_copy_81 : decode cX5_copy 81 = .ok (.iload_n 2, 1) := dk_28 (dk_at dksX5_copy_3 10 rfl rfl)
theorem dX5_copy_82 : decode cX5_copy 82 = .ok (.aload_n 1, 1) := dk_43 (dk_at dksX5_copy_3 11 rfl rfl)
theorem dX5_copy_83 : decode cX5_copy 83 = .ok (.getfield 28, 3) := dk_180 0 28 (dk_at dksX5_copy_3 12 rfl rfl)
theorem dX5_copy_86 : decode cX5_copy 86 = .ok (.iload_n 2, 1) := dk_28 (dk_at dksX5_copy_3 15 rfl rfl)
theorem dX5_copy_87 : decode cX5_copy 87 = .ok (.baload, 1) := dk_51 (dk_at dksX5_copy_3 16 rfl rfl)
theorem dX5_copy_88 : decode cX5_copy 88 = .ok (.bastore, 1) := dk_84 (dk_at dksX5_copy_3 17 rfl rfl)
theorem dX5_copy_89 : decode cX5_copy 89 = .ok (.iinc 2 1, 3) := dk_132 2 1 (dk_at dksX5_copy_3 18 rfl rfl)
theorem dX5_copy_92 : decode cX5_copy 92 = .ok (.goto (-69), 3) := dk_167 255 187 (dk_at dksX5_copy_3 21 rfl rfl)
theorem dX5_copy_95 : decode cX5_copy 95 = .ok (.iconst 0, 1) := dk_3 (dk_at dksX5_copy_4 0 rfl rfl)
theorem dX5_copy_96 : decode cX5_copy 96 = .ok (.istore_n 2, 1) := dk_61 (dk_at dksX5_copy_4 1 rfl rfl)
theorem dX5_copy_97 : decode cX5_copy 97 = .ok (.iload_n 2, 1) := dk_28 (dk_at dksX5_copy_4 2 rfl rfl)
theorem dX5_copy_98 : decode cX5_copy 98 = .ok (.aload_n 0, 1) := dk_42 (dk_at dksX5_copy_4 3 rfl rfl)
theorem dX5_copy_99 : decode cX5_copy 99 = .ok (.getfield 44, 3) := dk_180 0 44 (dk_at dksX5_copy_4 4 rfl rfl)
theorem dX5_copy_102 : decode cX5_copy 102 = .ok (.if_icmp .ge 38, 3) := dk_162 0 38 (dk_at dksX5_copy_4 7 rfl rfl)
theorem dX5_copy_105 : decode cX5_copy 105 = .ok (.iconst 0, 1) := dk_3 (dk_at dksX5_copy_4 10 rfl rfl)
theorem dX5_copy_106 : decode cX5_copy 106 = .ok (.istore_n 3, 1) := dk_62 (dk_at dksX5_copy_4 11 rfl rfl)
theorem dX5_copy_107 : decode cX5_copy 107 = .ok (.iload_n 3, 1) := dk_29 (dk_at dksX5_copy_4 12 rfl rfl)
theorem dX5_copy_108 : decode cX5_copy 108 = .ok (.iconst 3, 1) := dk_6 (dk_at dksX5_copy_4 13 rfl rfl)
theorem dX5_copy_109 : decode cX5_copy 109 = .ok (.if_icmp .ge 25, 3) := dk_162 0 25 (dk_at dksX5_copy_4 14 rfl rfl)
theorem dX5_copy_112 : decode cX5_copy 112 = .ok (.aload_n 0, 1) := dk_42 (dk_at dksX5_copy_4 17 rfl rfl)
theorem dX5_copy_113 : decode cX5_copy 113 = .ok (.getfield 34, 3) := dk_180 0 34 (dk_at dksX5_copy_4 18 rfl rfl)
theorem dX5_copy_116 : decode cX5_copy 116 = .ok (.iload_n 2, 1) := dk_28 (dk_at dksX5_copy_4 21 rfl rfl)
theorem dX5_copy_117 : decode cX5_copy 117 = .ok (.aaload, 1) := dk_50 (dk_at dksX5_copy_4 22 rfl rfl)
theorem dX5_copy_118 : decode cX5_copy 118 = .ok (.iload_n 3, 1) := dk_29 (dk_at dksX5_copy_4 23 rfl rfl)
theorem dX5_copy_119 : decode cX5_copy 119 = .ok (.aload_n 1, 1) := dk_43 (dk_at dksX5_copy_5 0 rfl rfl)
theorem dX5_copy_120 : decode cX5_copy 120 = .ok (.getfield 34, 3) := dk_180 0 34 (dk_at dksX5_copy_5 1 rfl rfl)
theorem dX5_copy_123 : decode cX5_copy 123 = .ok (.iload_n 2, 1) := dk_28 (dk_at dksX5_copy_5 4 rfl rfl)
theorem dX5_copy_124 : decode cX5_copy 124 = .ok (.aaload, 1) := dk_50 (dk_at dksX5_copy_5 5 rfl rfl)
theorem dX5_copy_125 : decode cX5_copy 125 = .ok (.iload_n 3, 1) := dk_29 (dk_at dksX5_copy_5 6 rfl rfl)
theorem dX5_copy_126 : decode cX5_copy 126 = .ok (.iaload, 1) := dk_46 (dk_at dksX5_copy_5 7 rfl rfl)
theorem dX5_copy_127 : decode cX5_copy 127 = .ok (.iastore, 1) := dk_79 (dk_at dksX5_copy_5 8 rfl rfl)
theorem dX5_copy_128 : decode cX5_copy 128 = .ok (.iinc 3 1, 3) := dk_132 3 1 (dk_at dksX5_copy_5 9 rfl rfl)
theorem dX5_copy_131 : decode cX5_copy 131 = .ok (.goto (-24), 3) := dk_167 255 232 (dk_at dksX5_copy_5 12 rfl rfl)
theorem dX5_copy_134 : decode cX5_copy 134 = .ok (.iinc 2 1, 3) := dk_132 2 1 (dk_at dksX5_copy_5 15 rfl rfl)
theorem dX5_copy_137 : decode cX5_copy 137 = .ok (.goto (-40), 3) := dk_167 255 216 (dk_at dksX5_copy_5 18 rfl rfl)
theorem dX5_copy_140 : decode cX5_copy 140 = .ok (.aload_n 0, 1) := dk_42 (dk_at dksX5_copy_5 21 rfl rfl)
theorem dX5_copy_141 : decode cX5_copy 141 = .ok (.areturn, 1) := dk_176 (dk_at dksX5_copy_5 22 rfl rfl)
abbrev cX5_passes : ByteArray := prog_17_method_16_code
def yX5_passes : MethodName := ⟨RX5, "passes", "()I"⟩
def dkwX5_passes_9 : List UInt8 := [180, 0, 166, 184, 0, 187, 172]
abbrev dktX5_passes_9 : List UInt8 := dkwX5_passes_9 ++ []
def dkwX5_passes_8 : List UInt8 := [182, 0, 184, 42, 182, 0, 181, 60, 167, 255, 219, 42, 89, 180, 0, 40, 4, 96, 181, 0, 40, 42]
abbrev dktX5_passes_8 : List UInt8 := dkwX5_passes_8 ++ dktX5_passes_9
def dkwX5_passes_7 : List UInt8 := [182, 0, 159, 61, 42, 180, 0, 37, 28, 92, 46, 42, 27, 28, 182, 0, 152, 100, 79, 42, 27, 28]
abbrev dktX5_passes_7 : List UInt8 := dkwX5_passes_7 ++ dktX5_passes_8
def dkwX5_passes_6 : List UInt8 := [180, 0, 178, 79, 132, 1, 1, 167, 255, 225, 42, 182, 0, 181, 60, 27, 2, 159, 0, 38, 42, 27]
abbrev dktX5_passes_6 : List UInt8 := dkwX5_passes_6 ++ dktX5_passes_7
def dkwX5_passes_5 : List UInt8 := [27, 42, 180, 0, 3, 182, 0, 148, 162, 0, 26, 42, 180, 0, 37, 27, 42, 180, 0, 3, 27, 182, 0, 86]
abbrev dktX5_passes_5 : List UInt8 := dkwX5_passes_5 ++ dktX5_passes_6
def dkwX5_passes_4 : List UInt8 := [42, 180, 0, 166, 27, 184, 0, 172, 153, 0, 8, 42, 27, 182, 0, 176, 132, 1, 1, 167, 255, 226, 3, 60]
abbrev dktX5_passes_4 : List UInt8 := dkwX5_passes_4 ++ dktX5_passes_5
def dkwX5_passes_3 : List UInt8 := [3, 128, 181, 0, 166, 132, 1, 1, 167, 255, 185, 3, 60, 27, 42, 180, 0, 3, 182, 0, 156, 162, 0, 25]
abbrev dktX5_passes_3 : List UInt8 := dkwX5_passes_3 ++ dktX5_passes_4
def dkwX5_passes_2 : List UInt8 := [42, 42, 180, 0, 3, 180, 0, 101, 180, 0, 169, 27, 182, 0, 111, 153, 0, 9, 4, 27, 120, 167, 0, 4]
abbrev dktX5_passes_2 : List UInt8 := dkwX5_passes_2 ++ dktX5_passes_3
def dkwX5_passes_1 : List UInt8 := [180, 0, 101, 180, 0, 169, 198, 0, 53, 42, 89, 180, 0, 166, 42, 180, 0, 15, 27, 46, 4, 159, 0, 27]
abbrev dktX5_passes_1 : List UInt8 := dkwX5_passes_1 ++ dktX5_passes_2
def dkwX5_passes_0 : List UInt8 := [42, 3, 181, 0, 166, 3, 60, 27, 42, 180, 0, 3, 182, 0, 156, 162, 0, 66, 42, 180, 0, 3]
abbrev dktX5_passes_0 : List UInt8 := dkwX5_passes_0 ++ dktX5_passes_1
theorem dksX5_passes_0 : cX5_passes.data.toList.drop 0 = dktX5_passes_0 := by decide +kernel
theorem dksX5_passes_1 : cX5_passes.data.toList.drop 22 = dktX5_passes_1 := dk_seg dksX5_passes_0 22 rfl rfl
theorem dksX5_passes_2 : cX5_passes.data.toList.drop 46 = dktX5_passes_2 := dk_seg dksX5_passes_1 24 rfl rfl
theorem dksX5_passes_3 : cX5_passes.data.toList.drop 70 = dktX5_passes_3 := dk_seg dksX5_passes_2 24 rfl rfl
theorem dksX5_passes_4 : cX5_passes.data.toList.drop 94 = dktX5_passes_4 := dk_seg dksX5_passes_3 24 rfl rfl
theorem dksX5_passes_5 : cX5_passes.data.toList.drop 118 = dktX5_passes_5 := dk_seg dksX5_passes_4 24 rfl rfl
theorem dksX5_passes_6 : cX5_passes.data.toList.drop 142 = dktX5_passes_6 := dk_seg dksX5_passes_5 24 rfl rfl
theorem dksX5_passes_7 : cX5_passes.data.toList.drop 164 = dktX5_passes_7 := dk_seg dksX5_passes_6 22 rfl rfl
theorem dksX5_passes_8 : cX5_passes.data.toList.drop 186 = dktX5_passes_8 := dk_seg dksX5_passes_7 22 rfl rfl
theorem dksX5_passes_9 : cX5_passes.data.toList.drop 208 = dktX5_passes_9 := dk_seg dksX5_passes_8 22 rfl rfl
theorem dX5_passes_0 : decode cX5_passes 0 = .ok (.aload_n 0, 1) := dk_42 (dk_at dksX5_passes_0 0 rfl rfl)
theorem dX5_passes_1 : decode cX5_passes 1 = .ok (.iconst 0, 1) := dk_3 (dk_at dksX5_passes_0 1 rfl rfl)
theorem dX5_passes_2 : decode cX5_passes 2 = .ok (.putfield 166, 3) := dk_181 0 166 (dk_at dksX5_passes_0 2 rfl rfl)
theorem dX5_passes_5 : decode cX5_passes 5 = .ok (.iconst 0, 1) := dk_3 (dk_at dksX5_passes_0 5 rfl rfl)
theorem dX5_passes_6 : decode cX5_passes 6 = .ok (.istore_n 1, 1) := dk_60 (dk_at dksX5_passes_0 6 rfl rfl)
theorem dX5_passes_7 : decode cX5_passes 7 = .ok (.iload_n 1, 1) := dk_27 (dk_at dksX5_passes_0 7 rfl rfl)
theorem dX5_passes_8 : decode cX5_passes 8 = .ok (.aload_n 0, 1) := dk_42 (dk_at dksX5_passes_0 8 rfl rfl)
theorem dX5_passes_9 : decode cX5_passes 9 = .ok (.getfield 3, 3) := dk_180 0 3 (dk_at dksX5_passes_0 9 rfl rfl)
theorem dX5_passes_12 : decode cX5_passes 12 = .ok (.invokevirtual 156, 3) := dk_182 0 156 (dk_at dksX5_passes_0 12 rfl rfl)
theorem dX5_passes_15 : decode cX5_passes 15 = .ok (.if_icmp .ge 66, 3) := dk_162 0 66 (dk_at dksX5_passes_0 15 rfl rfl)
theorem dX5_passes_18 : decode cX5_passes 18 = .ok (.aload_n 0, 1) := dk_42 (dk_at dksX5_passes_0 18 rfl rfl)
theorem dX5_passes_19 : decode cX5_passes 19 = .ok (.getfield 3, 3) := dk_180 0 3 (dk_at dksX5_passes_0 19 rfl rfl)
theorem dX5_passes_22 : decode cX5_passes 22 = .ok (.getfield 101, 3) := dk_180 0 101 (dk_at dksX5_passes_1 0 rfl rfl)
theorem dX5_passes_25 : decode cX5_passes 25 = .ok (.getfield 169, 3) := dk_180 0 169 (dk_at dksX5_passes_1 3 rfl rfl)
theorem dX5_passes_28 : decode cX5_passes 28 = .ok (.ifnull 53, 3) := dk_198 0 53 (dk_at dksX5_passes_1 6 rfl rfl)
theorem dX5_passes_31 : decode cX5_passes 31 = .ok (.aload_n 0, 1) := dk_42 (dk_at dksX5_passes_1 9 rfl rfl)
theorem dX5_passes_32 : decode cX5_passes 32 = .ok (.dup, 1) := dk_89 (dk_at dksX5_passes_1 10 rfl rfl)
theorem dX5_passes_33 : decode cX5_passes 33 = .ok (.getfield 166, 3) := dk_180 0 166 (dk_at dksX5_passes_1 11 rfl rfl)
theorem dX5_passes_36 : decode cX5_passes 36 = .ok (.aload_n 0, 1) := dk_42 (dk_at dksX5_passes_1 14 rfl rfl)
theorem dX5_passes_37 : decode cX5_passes 37 = .ok (.getfield 15, 3) := dk_180 0 15 (dk_at dksX5_passes_1 15 rfl rfl)
theorem dX5_passes_40 : decode cX5_passes 40 = .ok (.iload_n 1, 1) := dk_27 (dk_at dksX5_passes_1 18 rfl rfl)
theorem dX5_passes_41 : decode cX5_passes 41 = .ok (.iaload, 1) := dk_46 (dk_at dksX5_passes_1 19 rfl rfl)
theorem dX5_passes_42 : decode cX5_passes 42 = .ok (.iconst 1, 1) := dk_4 (dk_at dksX5_passes_1 20 rfl rfl)
theorem dX5_passes_43 : decode cX5_passes 43 = .ok (.if_icmp .eq 27, 3) := dk_159 0 27 (dk_at dksX5_passes_1 21 rfl rfl)
theorem dX5_passes_46 : decode cX5_passes 46 = .ok (.aload_n 0, 1) := dk_42 (dk_at dksX5_passes_2 0 rfl rfl)
theorem dX5_passes_47 : decode cX5_passes 47 = .ok (.aload_n 0, 1) := dk_42 (dk_at dksX5_passes_2 1 rfl rfl)
theorem dX5_passes_48 : decode cX5_passes 48 = .ok (.getfield 3, 3) := dk_180 0 3 (dk_at dksX5_passes_2 2 rfl rfl)
theorem dX5_passes_51 : decode cX5_passes 51 = .ok (.getfield 101, 3) := dk_180 0 101 (dk_at dksX5_passes_2 5 rfl rfl)
theorem dX5_passes_54 : decode cX5_passes 54 = .ok (.getfield 169, 3) := dk_180 0 169 (dk_at dksX5_passes_2 8 rfl rfl)
theorem dX5_passes_57 : decode cX5_passes 57 = .ok (.iload_n 1, 1) := dk_27 (dk_at dksX5_passes_2 11 rfl rfl)
theorem dX5_passes_58 : decode cX5_passes 58 = .ok (.invokevirtual 111, 3) := dk_182 0 111 (dk_at dksX5_passes_2 12 rfl rfl)
theorem dX5_passes_61 : decode cX5_passes 61 = .ok (.ifCond .eq 9, 3) := dk_153 0 9 (dk_at dksX5_passes_2 15 rfl rfl)
theorem dX5_passes_64 : decode cX5_passes 64 = .ok (.iconst 1, 1) := dk_4 (dk_at dksX5_passes_2 18 rfl rfl)
theorem dX5_passes_65 : decode cX5_passes 65 = .ok (.iload_n 1, 1) := dk_27 (dk_at dksX5_passes_2 19 rfl rfl)
theorem dX5_passes_66 : decode cX5_passes 66 = .ok (.ishl, 1) := dk_120 (dk_at dksX5_passes_2 20 rfl rfl)
theorem dX5_passes_67 : decode cX5_passes 67 = .ok (.goto 4, 3) := dk_167 0 4 (dk_at dksX5_passes_2 21 rfl rfl)
theorem dX5_passes_70 : decode cX5_passes 70 = .ok (.iconst 0, 1) := dk_3 (dk_at dksX5_passes_3 0 rfl rfl)
theorem dX5_passes_71 : decode cX5_passes 71 = .ok (.ior, 1) := dk_128 (dk_at dksX5_passes_3 1 rfl rfl)
theorem dX5_passes_72 : decode cX5_passes 72 = .ok (.putfield 166, 3) := dk_181 0 166 (dk_at dksX5_passes_3 2 rfl rfl)
theorem dX5_passes_75 : decode cX5_passes 75 = .ok (.iinc 1 1, 3) := dk_132 1 1 (dk_at dksX5_passes_3 5 rfl rfl)
theorem dX5_passes_78 : decode cX5_passes 78 = .ok (.goto (-71), 3) := dk_167 255 185 (dk_at dksX5_passes_3 8 rfl rfl)
theorem dX5_passes_81 : decode cX5_passes 81 = .ok (.iconst 0, 1) := dk_3 (dk_at dksX5_passes_3 11 rfl rfl)
theorem dX5_passes_82 : decode cX5_passes 82 = .ok (.istore_n 1, 1) := dk_60 (dk_at dksX5_passes_3 12 rfl rfl)
theorem dX5_passes_83 : decode cX5_passes 83 = .ok (.iload_n 1, 1) := dk_27 (dk_at dksX5_passes_3 13 rfl rfl)
theorem dX5_passes_84 : decode cX5_passes 84 = .ok (.aload_n 0, 1) := dk_42 (dk_at dksX5_passes_3 14 rfl rfl)
theorem dX5_passes_85 : decode cX5_passes 85 = .ok (.getfield 3, 3) := dk_180 0 3 (dk_at dksX5_passes_3 15 rfl rfl)
theorem dX5_passes_88 : decode cX5_passes 88 = .ok (.invokevirtual 156, 3) := dk_182 0 156 (dk_at dksX5_passes_3 18 rfl rfl)
theorem dX5_passes_91 : decode cX5_passes 91 = .ok (.if_icmp .ge 25, 3) := dk_162 0 25 (dk_at dksX5_passes_3 21 rfl rfl)
theorem dX5_passes_94 : decode cX5_passes 94 = .ok (.aload_n 0, 1) := dk_42 (dk_at dksX5_passes_4 0 rfl rfl)
theorem dX5_passes_95 : decode cX5_passes 95 = .ok (.getfield 166, 3) := dk_180 0 166 (dk_at dksX5_passes_4 1 rfl rfl)
theorem dX5_passes_98 : decode cX5_passes 98 = .ok (.iload_n 1, 1) := dk_27 (dk_at dksX5_passes_4 4 rfl rfl)
theorem dX5_passes_99 : decode cX5_passes 99 = .ok (.invokestatic 172, 3) := dk_184 0 172 (dk_at dksX5_passes_4 5 rfl rfl)
theorem dX5_passes_102 : decode cX5_passes 102 = .ok (.ifCond .eq 8, 3) := dk_153 0 8 (dk_at dksX5_passes_4 8 rfl rfl)
theorem dX5_passes_105 : decode cX5_passes 105 = .ok (.aload_n 0, 1) := dk_42 (dk_at dksX5_passes_4 11 rfl rfl)
theorem dX5_passes_106 : decode cX5_passes 106 = .ok (.iload_n 1, 1) := dk_27 (dk_at dksX5_passes_4 12 rfl rfl)
theorem dX5_passes_107 : decode cX5_passes 107 = .ok (.invokevirtual 176, 3) := dk_182 0 176 (dk_at dksX5_passes_4 13 rfl rfl)
theorem dX5_passes_110 : decode cX5_passes 110 = .ok (.iinc 1 1, 3) := dk_132 1 1 (dk_at dksX5_passes_4 16 rfl rfl)
theorem dX5_passes_113 : decode cX5_passes 113 = .ok (.goto (-30), 3) := dk_167 255 226 (dk_at dksX5_passes_4 19 rfl rfl)
theorem dX5_passes_116 : decode cX5_passes 116 = .ok (.iconst 0, 1) := dk_3 (dk_at dksX5_passes_4 22 rfl rfl)
theorem dX5_passes_117 : decode cX5_passes 117 = .ok (.istore_n 1, 1) := dk_60 (dk_at dksX5_passes_4 23 rfl rfl)
theorem dX5_passes_118 : decode cX5_passes 118 = .ok (.iload_n 1, 1) := dk_27 (dk_at dksX5_passes_5 0 rfl rfl)
theorem dX5_passes_119 : decode cX5_passes 119 = .ok (.aload_n 0, 1) := dk_42 (dk_at dksX5_passes_5 1 rfl rfl)
theorem dX5_passes_120 : decode cX5_passes 120 = .ok (.getfield 3, 3) := dk_180 0 3 (dk_at dksX5_passes_5 2 rfl rfl)
theorem dX5_passes_123 : decode cX5_passes 123 = .ok (.invokevirtual 148, 3) := dk_182 0 148 (dk_at dksX5_passes_5 5 rfl rfl)
theorem dX5_passes_126 : decode cX5_passes 126 = .ok (.if_icmp .ge 26, 3) := dk_162 0 26 (dk_at dksX5_passes_5 8 rfl rfl)
theorem dX5_passes_129 : decode cX5_passes 129 = .ok (.aload_n 0, 1) := dk_42 (dk_at dksX5_passes_5 11 rfl rfl)
theorem dX5_passes_130 : decode cX5_passes 130 = .ok (.getfield 37, 3) := dk_180 0 37 (dk_at dksX5_passes_5 12 rfl rfl)
theorem dX5_passes_133 : decode cX5_passes 133 = .ok (.iload_n 1, 1) := dk_27 (dk_at dksX5_passes_5 15 rfl rfl)
theorem dX5_passes_134 : decode cX5_passes 134 = .ok (.aload_n 0, 1) := dk_42 (dk_at dksX5_passes_5 16 rfl rfl)
theorem dX5_passes_135 : decode cX5_passes 135 = .ok (.getfield 3, 3) := dk_180 0 3 (dk_at dksX5_passes_5 17 rfl rfl)
theorem dX5_passes_138 : decode cX5_passes 138 = .ok (.iload_n 1, 1) := dk_27 (dk_at dksX5_passes_5 20 rfl rfl)
theorem dX5_passes_139 : decode cX5_passes 139 = .ok (.invokevirtual 86, 3) := dk_182 0 86 (dk_at dksX5_passes_5 21 rfl rfl)
theorem dX5_passes_142 : decode cX5_passes 142 = .ok (.getfield 178, 3) := dk_180 0 178 (dk_at dksX5_passes_6 0 rfl rfl)
theorem dX5_passes_145 : decode cX5_passes 145 = .ok (.iastore, 1) := dk_79 (dk_at dksX5_passes_6 3 rfl rfl)
theorem dX5_passes_146 : decode cX5_passes 146 = .ok (.iinc 1 1, 3) := dk_132 1 1 (dk_at dksX5_passes_6 4 rfl rfl)
theorem dX5_passes_149 : decode cX5_passes 149 = .ok (.goto (-31), 3) := dk_167 255 225 (dk_at dksX5_passes_6 7 rfl rfl)
theorem dX5_passes_152 : decode cX5_passes 152 = .ok (.aload_n 0, 1) := dk_42 (dk_at dksX5_passes_6 10 rfl rfl)
theorem dX5_passes_153 : decode cX5_passes 153 = .ok (.invokevirtual 181, 3) := dk_182 0 181 (dk_at dksX5_passes_6 11 rfl rfl)
theorem dX5_passes_156 : decode cX5_passes 156 = .ok (.istore_n 1, 1) := dk_60 (dk_at dksX5_passes_6 14 rfl rfl)
theorem dX5_passes_157 : decode cX5_passes 157 = .ok (.iload_n 1, 1) := dk_27 (dk_at dksX5_passes_6 15 rfl rfl)
theorem dX5_passes_158 : decode cX5_passes 158 = .ok (.iconst (-1), 1) := dk_2 (dk_at dksX5_passes_6 16 rfl rfl)
theorem dX5_passes_159 : decode cX5_passes 159 = .ok (.if_icmp .eq 38, 3) := dk_159 0 38 (dk_at dksX5_passes_6 17 rfl rfl)
theorem dX5_passes_162 : decode cX5_passes 162 = .ok (.aload_n 0, 1) := dk_42 (dk_at dksX5_passes_6 20 rfl rfl)
theorem dX5_passes_163 : decode cX5_passes 163 = .ok (.iload_n 1, 1) := dk_27 (dk_at dksX5_passes_6 21 rfl rfl)
theorem dX5_passes_164 : decode cX5_passes 164 = .ok (.invokevirtual 159, 3) := dk_182 0 159 (dk_at dksX5_passes_7 0 rfl rfl)
theorem dX5_passes_167 : decode cX5_passes 167 = .ok (.istore_n 2, 1) := dk_61 (dk_at dksX5_passes_7 3 rfl rfl)
theorem dX5_passes_168 : decode cX5_passes 168 = .ok (.aload_n 0, 1) := dk_42 (dk_at dksX5_passes_7 4 rfl rfl)
theorem dX5_passes_169 : decode cX5_passes 169 = .ok (.getfield 37, 3) := dk_180 0 37 (dk_at dksX5_passes_7 5 rfl rfl)
theorem dX5_passes_172 : decode cX5_passes 172 = .ok (.iload_n 2, 1) := dk_28 (dk_at dksX5_passes_7 8 rfl rfl)
theorem dX5_passes_173 : decode cX5_passes 173 = .ok (.dup2, 1) := dk_92 (dk_at dksX5_passes_7 9 rfl rfl)
theorem dX5_passes_174 : decode cX5_passes 174 = .ok (.iaload, 1) := dk_46 (dk_at dksX5_passes_7 10 rfl rfl)
theorem dX5_passes_175 : decode cX5_passes 175 = .ok (.aload_n 0, 1) := dk_42 (dk_at dksX5_passes_7 11 rfl rfl)
theorem dX5_passes_176 : decode cX5_passes 176 = .ok (.iload_n 1, 1) := dk_27 (dk_at dksX5_passes_7 12 rfl rfl)
theorem dX5_passes_177 : decode cX5_passes 177 = .ok (.iload_n 2, 1) := dk_28 (dk_at dksX5_passes_7 13 rfl rfl)
theorem dX5_passes_178 : decode cX5_passes 178 = .ok (.invokevirtual 152, 3) := dk_182 0 152 (dk_at dksX5_passes_7 14 rfl rfl)
theorem dX5_passes_181 : decode cX5_passes 181 = .ok (.isub, 1) := dk_100 (dk_at dksX5_passes_7 17 rfl rfl)
theorem dX5_passes_182 : decode cX5_passes 182 = .ok (.iastore, 1) := dk_79 (dk_at dksX5_passes_7 18 rfl rfl)
theorem dX5_passes_183 : decode cX5_passes 183 = .ok (.aload_n 0, 1) := dk_42 (dk_at dksX5_passes_7 19 rfl rfl)
theorem dX5_passes_184 : decode cX5_passes 184 = .ok (.iload_n 1, 1) := dk_27 (dk_at dksX5_passes_7 20 rfl rfl)
theorem dX5_passes_185 : decode cX5_passes 185 = .ok (.iload_n 2, 1) := dk_28 (dk_at dksX5_passes_7 21 rfl rfl)
theorem dX5_passes_186 : decode cX5_passes 186 = .ok (.invokevirtual 184, 3) := dk_182 0 184 (dk_at dksX5_passes_8 0 rfl rfl)
theorem dX5_passes_189 : decode cX5_passes 189 = .ok (.aload_n 0, 1) := dk_42 (dk_at dksX5_passes_8 3 rfl rfl)
theorem dX5_passes_190 : decode cX5_passes 190 = .ok (.invokevirtual 181, 3) := dk_182 0 181 (dk_at dksX5_passes_8 4 rfl rfl)
theorem dX5_passes_193 : decode cX5_passes 193 = .ok (.istore_n 1, 1) := dk_60 (dk_at dksX5_passes_8 7 rfl rfl)
theorem dX5_passes_194 : decode cX5_passes 194 = .ok (.goto (-37), 3) := dk_167 255 219 (dk_at dksX5_passes_8 8 rfl rfl)
theorem dX5_passes_197 : decode cX5_passes 197 = .ok (.aload_n 0, 1) := dk_42 (dk_at dksX5_passes_8 11 rfl rfl)
theorem dX5_passes_198 : decode cX5_passes 198 = .ok (.dup, 1) := dk_89 (dk_at dksX5_passes_8 12 rfl rfl)
theorem dX5_passes_199 : decode cX5_passes 199 = .ok (.getfield 40, 3) := dk_180 0 40 (dk_at dksX5_passes_8 13 rfl rfl)
theorem dX5_passes_202 : decode cX5_passes 202 = .ok (.iconst 1, 1) := dk_4 (dk_at dksX5_passes_8 16 rfl rfl)
theorem dX5_passes_203 : decode cX5_passes 203 = .ok (.iadd, 1) := dk_96 (dk_at dksX5_passes_8 17 rfl rfl)
theorem dX5_passes_204 : decode cX5_passes 204 = .ok (.putfield 40, 3) := dk_181 0 40 (dk_at dksX5_passes_8 18 rfl rfl)
theorem dX5_passes_207 : decode cX5_passes 207 = .ok (.aload_n 0, 1) := dk_42 (dk_at dksX5_passes_8 21 rfl rfl)
theorem dX5_passes_208 : decode cX5_passes 208 = .ok (.getfield 166, 3) := dk_180 0 166 (dk_at dksX5_passes_9 0 rfl rfl)
theorem dX5_passes_211 : decode cX5_passes 211 = .ok (.invokestatic 187, 3) := dk_184 0 187 (dk_at dksX5_passes_9 3 rfl rfl)
theorem dX5_passes_214 : decode cX5_passes 214 = .ok (.ireturn, 1) := dk_172 (dk_at dksX5_passes_9 6 rfl rfl)
abbrev cX5_breaks : ByteArray := prog_17_method_12_code
def yX5_breaks : MethodName := ⟨RX5, "breaks", "(I)V"⟩
def dkwX5_breaks_1 : List UInt8 := [4, 79, 42, 180, 0, 28, 27, 3, 84, 42, 27, 3, 182, 0, 142, 177]
abbrev dktX5_breaks_1 : List UInt8 := dkwX5_breaks_1 ++ []
def dkwX5_breaks_0 : List UInt8 := [42, 180, 0, 19, 27, 16, 99, 42, 180, 0, 19, 27, 46, 4, 96, 184, 0, 139, 79, 42, 180, 0, 15, 27]
abbrev dktX5_breaks_0 : List UInt8 := dkwX5_breaks_0 ++ dktX5_breaks_1
theorem dksX5_breaks_0 : cX5_breaks.data.toList.drop 0 = dktX5_breaks_0 := by decide +kernel
theorem dksX5_breaks_1 : cX5_breaks.data.toList.drop 24 = dktX5_breaks_1 := dk_seg dksX5_breaks_0 24 rfl rfl
theorem dX5_breaks_0 : decode cX5_breaks 0 = .ok (.aload_n 0, 1) := dk_42 (dk_at dksX5_breaks_0 0 rfl rfl)
theorem dX5_breaks_1 : decode cX5_breaks 1 = .ok (.getfield 19, 3) := dk_180 0 19 (dk_at dksX5_breaks_0 1 rfl rfl)
theorem dX5_breaks_4 : decode cX5_breaks 4 = .ok (.iload_n 1, 1) := dk_27 (dk_at dksX5_breaks_0 4 rfl rfl)
theorem dX5_breaks_5 : decode cX5_breaks 5 = .ok (.bipush 99, 2) := dk_16 99 (dk_at dksX5_breaks_0 5 rfl rfl)
theorem dX5_breaks_7 : decode cX5_breaks 7 = .ok (.aload_n 0, 1) := dk_42 (dk_at dksX5_breaks_0 7 rfl rfl)
theorem dX5_breaks_8 : decode cX5_breaks 8 = .ok (.getfield 19, 3) := dk_180 0 19 (dk_at dksX5_breaks_0 8 rfl rfl)
theorem dX5_breaks_11 : decode cX5_breaks 11 = .ok (.iload_n 1, 1) := dk_27 (dk_at dksX5_breaks_0 11 rfl rfl)
theorem dX5_breaks_12 : decode cX5_breaks 12 = .ok (.iaload, 1) := dk_46 (dk_at dksX5_breaks_0 12 rfl rfl)
theorem dX5_breaks_13 : decode cX5_breaks 13 = .ok (.iconst 1, 1) := dk_4 (dk_at dksX5_breaks_0 13 rfl rfl)
theorem dX5_breaks_14 : decode cX5_breaks 14 = .ok (.iadd, 1) := dk_96 (dk_at dksX5_breaks_0 14 rfl rfl)
theorem dX5_breaks_15 : decode cX5_breaks 15 = .ok (.invokestatic 139, 3) := dk_184 0 139 (dk_at dksX5_breaks_0 15 rfl rfl)
theorem dX5_breaks_18 : decode cX5_breaks 18 = .ok (.iastore, 1) := dk_79 (dk_at dksX5_breaks_0 18 rfl rfl)
theorem dX5_breaks_19 : decode cX5_breaks 19 = .ok (.aload_n 0, 1) := dk_42 (dk_at dksX5_breaks_0 19 rfl rfl)
theorem dX5_breaks_20 : decode cX5_breaks 20 = .ok (.getfield 15, 3) := dk_180 0 15 (dk_at dksX5_breaks_0 20 rfl rfl)
theorem dX5_breaks_23 : decode cX5_breaks 23 = .ok (.iload_n 1, 1) := dk_27 (dk_at dksX5_breaks_0 23 rfl rfl)
theorem dX5_breaks_24 : decode cX5_breaks 24 = .ok (.iconst 1, 1) := dk_4 (dk_at dksX5_breaks_1 0 rfl rfl)
theorem dX5_breaks_25 : decode cX5_breaks 25 = .ok (.iastore, 1) := dk_79 (dk_at dksX5_breaks_1 1 rfl rfl)
theorem dX5_breaks_26 : decode cX5_breaks 26 = .ok (.aload_n 0, 1) := dk_42 (dk_at dksX5_breaks_1 2 rfl rfl)
theorem dX5_breaks_27 : decode cX5_breaks 27 = .ok (.getfield 28, 3) := dk_180 0 28 (dk_at dksX5_breaks_1 3 rfl rfl)
theorem dX5_breaks_30 : decode cX5_breaks 30 = .ok (.iload_n 1, 1) := dk_27 (dk_at dksX5_breaks_1 6 rfl rfl)
theorem dX5_breaks_31 : decode cX5_breaks 31 = .ok (.iconst 0, 1) := dk_3 (dk_at dksX5_breaks_1 7 rfl rfl)
theorem dX5_breaks_32 : decode cX5_breaks 32 = .ok (.bastore, 1) := dk_84 (dk_at dksX5_breaks_1 8 rfl rfl)
theorem dX5_breaks_33 : decode cX5_breaks 33 = .ok (.aload_n 0, 1) := dk_42 (dk_at dksX5_breaks_1 9 rfl rfl)
theorem dX5_breaks_34 : decode cX5_breaks 34 = .ok (.iload_n 1, 1) := dk_27 (dk_at dksX5_breaks_1 10 rfl rfl)
theorem dX5_breaks_35 : decode cX5_breaks 35 = .ok (.iconst 0, 1) := dk_3 (dk_at dksX5_breaks_1 11 rfl rfl)
theorem dX5_breaks_36 : decode cX5_breaks 36 = .ok (.invokevirtual 142, 3) := dk_182 0 142 (dk_at dksX5_breaks_1 12 rfl rfl)
theorem dX5_breaks_39 : decode cX5_breaks 39 = .ok (.return_, 1) := dk_177 (dk_at dksX5_breaks_1 15 rfl rfl)
abbrev cX5_tells : ByteArray := prog_17_method_11_code
def yX5_tells : MethodName := ⟨RX5, "tells", "(II)V"⟩
def dkwX5_tells_5 : List UInt8 := [177]
abbrev dktX5_tells_5 : List UInt8 := dkwX5_tells_5 ++ []
def dkwX5_tells_4 : List UInt8 := [27, 79, 42, 180, 0, 34, 42, 180, 0, 44, 50, 5, 28, 79, 42, 89, 180, 0, 44, 4, 96, 181, 0, 44]
abbrev dktX5_tells_4 : List UInt8 := dkwX5_tells_4 ++ dktX5_tells_5
def dkwX5_tells_3 : List UInt8 := [180, 0, 34, 42, 180, 0, 44, 50, 3, 42, 180, 0, 40, 79, 42, 180, 0, 34, 42, 180, 0, 44, 50, 4]
abbrev dktX5_tells_3 : List UInt8 := dkwX5_tells_3 ++ dktX5_tells_4
def dkwX5_tells_2 : List UInt8 := [167, 255, 230, 42, 180, 0, 34, 16, 49, 45, 83, 42, 89, 180, 0, 44, 4, 100, 181, 0, 44, 42]
abbrev dktX5_tells_2 : List UInt8 := dkwX5_tells_2 ++ dktX5_tells_3
def dkwX5_tells_1 : List UInt8 := [162, 0, 25, 42, 180, 0, 34, 21, 4, 4, 100, 42, 180, 0, 34, 21, 4, 50, 83, 132, 4, 1]
abbrev dktX5_tells_1 : List UInt8 := dkwX5_tells_1 ++ dktX5_tells_2
def dkwX5_tells_0 : List UInt8 := [42, 180, 0, 44, 16, 50, 160, 0, 60, 42, 180, 0, 34, 3, 50, 78, 4, 54, 4, 21, 4, 16, 50]
abbrev dktX5_tells_0 : List UInt8 := dkwX5_tells_0 ++ dktX5_tells_1
theorem dksX5_tells_0 : cX5_tells.data.toList.drop 0 = dktX5_tells_0 := by decide +kernel
theorem dksX5_tells_1 : cX5_tells.data.toList.drop 23 = dktX5_tells_1 := dk_seg dksX5_tells_0 23 rfl rfl
theorem dksX5_tells_2 : cX5_tells.data.toList.drop 45 = dktX5_tells_2 := dk_seg dksX5_tells_1 22 rfl rfl
theorem dksX5_tells_3 : cX5_tells.data.toList.drop 67 = dktX5_tells_3 := dk_seg dksX5_tells_2 22 rfl rfl
theorem dksX5_tells_4 : cX5_tells.data.toList.drop 91 = dktX5_tells_4 := dk_seg dksX5_tells_3 24 rfl rfl
theorem dksX5_tells_5 : cX5_tells.data.toList.drop 115 = dktX5_tells_5 := dk_seg dksX5_tells_4 24 rfl rfl
theorem dX5_tells_0 : decode cX5_tells 0 = .ok (.aload_n 0, 1) := dk_42 (dk_at dksX5_tells_0 0 rfl rfl)
theorem dX5_tells_1 : decode cX5_tells 1 = .ok (.getfield 44, 3) := dk_180 0 44 (dk_at dksX5_tells_0 1 rfl rfl)
theorem dX5_tells_4 : decode cX5_tells 4 = .ok (.bipush 50, 2) := dk_16 50 (dk_at dksX5_tells_0 4 rfl rfl)
theorem dX5_tells_6 : decode cX5_tells 6 = .ok (.if_icmp .ne 60, 3) := dk_160 0 60 (dk_at dksX5_tells_0 6 rfl rfl)
theorem dX5_tells_9 : decode cX5_tells 9 = .ok (.aload_n 0, 1) := dk_42 (dk_at dksX5_tells_0 9 rfl rfl)
theorem dX5_tells_10 : decode cX5_tells 10 = .ok (.getfield 34, 3) := dk_180 0 34 (dk_at dksX5_tells_0 10 rfl rfl)
theorem dX5_tells_13 : decode cX5_tells 13 = .ok (.iconst 0, 1) := dk_3 (dk_at dksX5_tells_0 13 rfl rfl)
theorem dX5_tells_14 : decode cX5_tells 14 = .ok (.aaload, 1) := dk_50 (dk_at dksX5_tells_0 14 rfl rfl)
theorem dX5_tells_15 : decode cX5_tells 15 = .ok (.astore_n 3, 1) := dk_78 (dk_at dksX5_tells_0 15 rfl rfl)
theorem dX5_tells_16 : decode cX5_tells 16 = .ok (.iconst 1, 1) := dk_4 (dk_at dksX5_tells_0 16 rfl rfl)
theorem dX5_tells_17 : decode cX5_tells 17 = .ok (.istore 4, 2) := dk_54 4 (dk_at dksX5_tells_0 17 rfl rfl)
theorem dX5_tells_19 : decode cX5_tells 19 = .ok (.iload 4, 2) := dk_21 4 (dk_at dksX5_tells_0 19 rfl rfl)
theorem dX5_tells_21 : decode cX5_tells 21 = .ok (.bipush 50, 2) := dk_16 50 (dk_at dksX5_tells_0 21 rfl rfl)
theorem dX5_tells_23 : decode cX5_tells 23 = .ok (.if_icmp .ge 25, 3) := dk_162 0 25 (dk_at dksX5_tells_1 0 rfl rfl)
theorem dX5_tells_26 : decode cX5_tells 26 = .ok (.aload_n 0, 1) := dk_42 (dk_at dksX5_tells_1 3 rfl rfl)
theorem dX5_tells_27 : decode cX5_tells 27 = .ok (.getfield 34, 3) := dk_180 0 34 (dk_at dksX5_tells_1 4 rfl rfl)
theorem dX5_tells_30 : decode cX5_tells 30 = .ok (.iload 4, 2) := dk_21 4 (dk_at dksX5_tells_1 7 rfl rfl)
theorem dX5_tells_32 : decode cX5_tells 32 = .ok (.iconst 1, 1) := dk_4 (dk_at dksX5_tells_1 9 rfl rfl)
theorem dX5_tells_33 : decode cX5_tells 33 = .ok (.isub, 1) := dk_100 (dk_at dksX5_tells_1 10 rfl rfl)
theorem dX5_tells_34 : decode cX5_tells 34 = .ok (.aload_n 0, 1) := dk_42 (dk_at dksX5_tells_1 11 rfl rfl)
theorem dX5_tells_35 : decode cX5_tells 35 = .ok (.getfield 34, 3) := dk_180 0 34 (dk_at dksX5_tells_1 12 rfl rfl)
theorem dX5_tells_38 : decode cX5_tells 38 = .ok (.iload 4, 2) := dk_21 4 (dk_at dksX5_tells_1 15 rfl rfl)
theorem dX5_tells_40 : decode cX5_tells 40 = .ok (.aaload, 1) := dk_50 (dk_at dksX5_tells_1 17 rfl rfl)
theorem dX5_tells_41 : decode cX5_tells 41 = .ok (.aastore, 1) := dk_83 (dk_at dksX5_tells_1 18 rfl rfl)
theorem dX5_tells_42 : decode cX5_tells 42 = .ok (.iinc 4 1, 3) := dk_132 4 1 (dk_at dksX5_tells_1 19 rfl rfl)
theorem dX5_tells_45 : decode cX5_tells 45 = .ok (.goto (-26), 3) := dk_167 255 230 (dk_at dksX5_tells_2 0 rfl rfl)
theorem dX5_tells_48 : decode cX5_tells 48 = .ok (.aload_n 0, 1) := dk_42 (dk_at dksX5_tells_2 3 rfl rfl)
theorem dX5_tells_49 : decode cX5_tells 49 = .ok (.getfield 34, 3) := dk_180 0 34 (dk_at dksX5_tells_2 4 rfl rfl)
theorem dX5_tells_52 : decode cX5_tells 52 = .ok (.bipush 49, 2) := dk_16 49 (dk_at dksX5_tells_2 7 rfl rfl)
theorem dX5_tells_54 : decode cX5_tells 54 = .ok (.aload_n 3, 1) := dk_45 (dk_at dksX5_tells_2 9 rfl rfl)
theorem dX5_tells_55 : decode cX5_tells 55 = .ok (.aastore, 1) := dk_83 (dk_at dksX5_tells_2 10 rfl rfl)
theorem dX5_tells_56 : decode cX5_tells 56 = .ok (.aload_n 0, 1) := dk_42 (dk_at dksX5_tells_2 11 rfl rfl)
theorem dX5_tells_57 : decode cX5_tells 57 = .ok (.dup, 1) := dk_89 (dk_at dksX5_tells_2 12 rfl rfl)
theorem dX5_tells_58 : decode cX5_tells 58 = .ok (.getfield 44, 3) := dk_180 0 44 (dk_at dksX5_tells_2 13 rfl rfl)
theorem dX5_tells_61 : decode cX5_tells 61 = .ok (.iconst 1, 1) := dk_4 (dk_at dksX5_tells_2 16 rfl rfl)
theorem dX5_tells_62 : decode cX5_tells 62 = .ok (.isub, 1) := dk_100 (dk_at dksX5_tells_2 17 rfl rfl)
theorem dX5_tells_63 : decode cX5_tells 63 = .ok (.putfield 44, 3) := dk_181 0 44 (dk_at dksX5_tells_2 18 rfl rfl)
theorem dX5_tells_66 : decode cX5_tells 66 = .ok (.aload_n 0, 1) := dk_42 (dk_at dksX5_tells_2 21 rfl rfl)
theorem dX5_tells_67 : decode cX5_tells 67 = .ok (.getfield 34, 3) := dk_180 0 34 (dk_at dksX5_tells_3 0 rfl rfl)
theorem dX5_tells_70 : decode cX5_tells 70 = .ok (.aload_n 0, 1) := dk_42 (dk_at dksX5_tells_3 3 rfl rfl)
theorem dX5_tells_71 : decode cX5_tells 71 = .ok (.getfield 44, 3) := dk_180 0 44 (dk_at dksX5_tells_3 4 rfl rfl)
theorem dX5_tells_74 : decode cX5_tells 74 = .ok (.aaload, 1) := dk_50 (dk_at dksX5_tells_3 7 rfl rfl)
theorem dX5_tells_75 : decode cX5_tells 75 = .ok (.iconst 0, 1) := dk_3 (dk_at dksX5_tells_3 8 rfl rfl)
theorem dX5_tells_76 : decode cX5_tells 76 = .ok (.aload_n 0, 1) := dk_42 (dk_at dksX5_tells_3 9 rfl rfl)
theorem dX5_tells_77 : decode cX5_tells 77 = .ok (.getfield 40, 3) := dk_180 0 40 (dk_at dksX5_tells_3 10 rfl rfl)
theorem dX5_tells_80 : decode cX5_tells 80 = .ok (.iastore, 1) := dk_79 (dk_at dksX5_tells_3 13 rfl rfl)
theorem dX5_tells_81 : decode cX5_tells 81 = .ok (.aload_n 0, 1) := dk_42 (dk_at dksX5_tells_3 14 rfl rfl)
theorem dX5_tells_82 : decode cX5_tells 82 = .ok (.getfield 34, 3) := dk_180 0 34 (dk_at dksX5_tells_3 15 rfl rfl)
theorem dX5_tells_85 : decode cX5_tells 85 = .ok (.aload_n 0, 1) := dk_42 (dk_at dksX5_tells_3 18 rfl rfl)
theorem dX5_tells_86 : decode cX5_tells 86 = .ok (.getfield 44, 3) := dk_180 0 44 (dk_at dksX5_tells_3 19 rfl rfl)
theorem dX5_tells_89 : decode cX5_tells 89 = .ok (.aaload, 1) := dk_50 (dk_at dksX5_tells_3 22 rfl rfl)
theorem dX5_tells_90 : decode cX5_tells 90 = .ok (.iconst 1, 1) := dk_4 (dk_at dksX5_tells_3 23 rfl rfl)
theorem dX5_tells_91 : decode cX5_tells 91 = .ok (.iload_n 1, 1) := dk_27 (dk_at dksX5_tells_4 0 rfl rfl)
theorem dX5_tells_92 : decode cX5_tells 92 = .ok (.iastore, 1) := dk_79 (dk_at dksX5_tells_4 1 rfl rfl)
theorem dX5_tells_93 : decode cX5_tells 93 = .ok (.aload_n 0, 1) := dk_42 (dk_at dksX5_tells_4 2 rfl rfl)
theorem dX5_tells_94 : decode cX5_tells 94 = .ok (.getfield 34, 3) := dk_180 0 34 (dk_at dksX5_tells_4 3 rfl rfl)
theorem dX5_tells_97 : decode cX5_tells 97 = .ok (.aload_n 0, 1) := dk_42 (dk_at dksX5_tells_4 6 rfl rfl)
theorem dX5_tells_98 : decode cX5_tells 98 = .ok (.getfield 44, 3) := dk_180 0 44 (dk_at dksX5_tells_4 7 rfl rfl)
theorem dX5_tells_101 : decode cX5_tells 101 = .ok (.aaload, 1) := dk_50 (dk_at dksX5_tells_4 10 rfl rfl)
theorem dX5_tells_102 : decode cX5_tells 102 = .ok (.iconst 2, 1) := dk_5 (dk_at dksX5_tells_4 11 rfl rfl)
theorem dX5_tells_103 : decode cX5_tells 103 = .ok (.iload_n 2, 1) := dk_28 (dk_at dksX5_tells_4 12 rfl rfl)
theorem dX5_tells_104 : decode cX5_tells 104 = .ok (.iastore, 1) := dk_79 (dk_at dksX5_tells_4 13 rfl rfl)
theorem dX5_tells_105 : decode cX5_tells 105 = .ok (.aload_n 0, 1) := dk_42 (dk_at dksX5_tells_4 14 rfl rfl)
theorem dX5_tells_106 : decode cX5_tells 106 = .ok (.dup, 1) := dk_89 (dk_at dksX5_tells_4 15 rfl rfl)
theorem dX5_tells_107 : decode cX5_tells 107 = .ok (.getfield 44, 3) := dk_180 0 44 (dk_at dksX5_tells_4 16 rfl rfl)
theorem dX5_tells_110 : decode cX5_tells 110 = .ok (.iconst 1, 1) := dk_4 (dk_at dksX5_tells_4 19 rfl rfl)
theorem dX5_tells_111 : decode cX5_tells 111 = .ok (.iadd, 1) := dk_96 (dk_at dksX5_tells_4 20 rfl rfl)
theorem dX5_tells_112 : decode cX5_tells 112 = .ok (.putfield 44, 3) := dk_181 0 44 (dk_at dksX5_tells_4 21 rfl rfl)
theorem dX5_tells_115 : decode cX5_tells 115 = .ok (.return_, 1) := dk_177 (dk_at dksX5_tells_5 0 rfl rfl)
abbrev cX5_next : ByteArray := prog_17_method_15_code
def yX5_next : MethodName := ⟨RX5, "next", "()I"⟩
def dkwX5_next_3 : List UInt8 := [167, 255, 196, 27, 172]
abbrev dktX5_next_3 : List UInt8 := dkwX5_next_3 ++ []
def dkwX5_next_2 : List UInt8 := [182, 0, 163, 32, 148, 157, 0, 6, 167, 0, 13, 42, 21, 4, 182, 0, 163, 65, 21, 4, 60, 132, 4, 1]
abbrev dktX5_next_2 : List UInt8 := dkwX5_next_2 ++ dktX5_next_3
def dkwX5_next_1 : List UInt8 := [180, 0, 15, 21, 4, 46, 4, 160, 0, 37, 42, 21, 4, 182, 0, 159, 2, 159, 0, 27, 42, 21, 4]
abbrev dktX5_next_1 : List UInt8 := dkwX5_next_1 ++ dktX5_next_2
def dkwX5_next_0 : List UInt8 := [2, 60, 20, 0, 154, 65, 3, 54, 4, 21, 4, 42, 180, 0, 3, 182, 0, 156, 162, 0, 54, 42]
abbrev dktX5_next_0 : List UInt8 := dkwX5_next_0 ++ dktX5_next_1
theorem dksX5_next_0 : cX5_next.data.toList.drop 0 = dktX5_next_0 := by decide +kernel
theorem dksX5_next_1 : cX5_next.data.toList.drop 22 = dktX5_next_1 := dk_seg dksX5_next_0 22 rfl rfl
theorem dksX5_next_2 : cX5_next.data.toList.drop 45 = dktX5_next_2 := dk_seg dksX5_next_1 23 rfl rfl
theorem dksX5_next_3 : cX5_next.data.toList.drop 69 = dktX5_next_3 := dk_seg dksX5_next_2 24 rfl rfl
theorem dX5_next_0 : decode cX5_next 0 = .ok (.iconst (-1), 1) := dk_2 (dk_at dksX5_next_0 0 rfl rfl)
theorem dX5_next_1 : decode cX5_next 1 = .ok (.istore_n 1, 1) := dk_60 (dk_at dksX5_next_0 1 rfl rfl)
theorem dX5_next_2 : decode cX5_next 2 = .ok (.ldc2_w 154, 3) := dk_20 0 154 (dk_at dksX5_next_0 2 rfl rfl)
theorem dX5_next_5 : decode cX5_next 5 = .ok (.lstore_n 2, 1) := dk_65 (dk_at dksX5_next_0 5 rfl rfl)
theorem dX5_next_6 : decode cX5_next 6 = .ok (.iconst 0, 1) := dk_3 (dk_at dksX5_next_0 6 rfl rfl)
theorem dX5_next_7 : decode cX5_next 7 = .ok (.istore 4, 2) := dk_54 4 (dk_at dksX5_next_0 7 rfl rfl)
theorem dX5_next_9 : decode cX5_next 9 = .ok (.iload 4, 2) := dk_21 4 (dk_at dksX5_next_0 9 rfl rfl)
theorem dX5_next_11 : decode cX5_next 11 = .ok (.aload_n 0, 1) := dk_42 (dk_at dksX5_next_0 11 rfl rfl)
theorem dX5_next_12 : decode cX5_next 12 = .ok (.getfield 3, 3) := dk_180 0 3 (dk_at dksX5_next_0 12 rfl rfl)
theorem dX5_next_15 : decode cX5_next 15 = .ok (.invokevirtual 156, 3) := dk_182 0 156 (dk_at dksX5_next_0 15 rfl rfl)
theorem dX5_next_18 : decode cX5_next 18 = .ok (.if_icmp .ge 54, 3) := dk_162 0 54 (dk_at dksX5_next_0 18 rfl rfl)
theorem dX5_next_21 : decode cX5_next 21 = .ok (.aload_n 0, 1) := dk_42 (dk_at dksX5_next_0 21 rfl rfl)
theorem dX5_next_22 : decode cX5_next 22 = .ok (.getfield 15, 3) := dk_180 0 15 (dk_at dksX5_next_1 0 rfl rfl)
theorem dX5_next_25 : decode cX5_next 25 = .ok (.iload 4, 2) := dk_21 4 (dk_at dksX5_next_1 3 rfl rfl)
theorem dX5_next_27 : decode cX5_next 27 = .ok (.iaload, 1) := dk_46 (dk_at dksX5_next_1 5 rfl rfl)
theorem dX5_next_28 : decode cX5_next 28 = .ok (.iconst 1, 1) := dk_4 (dk_at dksX5_next_1 6 rfl rfl)
theorem dX5_next_29 : decode cX5_next 29 = .ok (.if_icmp .ne 37, 3) := dk_160 0 37 (dk_at dksX5_next_1 7 rfl rfl)
theorem dX5_next_32 : decode cX5_next 32 = .ok (.aload_n 0, 1) := dk_42 (dk_at dksX5_next_1 10 rfl rfl)
theorem dX5_next_33 : decode cX5_next 33 = .ok (.iload 4, 2) := dk_21 4 (dk_at dksX5_next_1 11 rfl rfl)
theorem dX5_next_35 : decode cX5_next 35 = .ok (.invokevirtual 159, 3) := dk_182 0 159 (dk_at dksX5_next_1 13 rfl rfl)
theorem dX5_next_38 : decode cX5_next 38 = .ok (.iconst (-1), 1) := dk_2 (dk_at dksX5_next_1 16 rfl rfl)
theorem dX5_next_39 : decode cX5_next 39 = .ok (.if_icmp .eq 27, 3) := dk_159 0 27 (dk_at dksX5_next_1 17 rfl rfl)
theorem dX5_next_42 : decode cX5_next 42 = .ok (.aload_n 0, 1) := dk_42 (dk_at dksX5_next_1 20 rfl rfl)
theorem dX5_next_43 : decode cX5_next 43 = .ok (.iload 4, 2) := dk_21 4 (dk_at dksX5_next_1 21 rfl rfl)
theorem dX5_next_45 : decode cX5_next 45 = .ok (.invokevirtual 163, 3) := dk_182 0 163 (dk_at dksX5_next_2 0 rfl rfl)
theorem dX5_next_48 : decode cX5_next 48 = .ok (.lload_n 2, 1) := dk_32 (dk_at dksX5_next_2 3 rfl rfl)
theorem dX5_next_49 : decode cX5_next 49 = .ok (.lcmp, 1) := dk_148 (dk_at dksX5_next_2 4 rfl rfl)
theorem dX5_next_50 : decode cX5_next 50 = .ok (.ifCond .gt 6, 3) := dk_157 0 6 (dk_at dksX5_next_2 5 rfl rfl)
theorem dX5_next_53 : decode cX5_next 53 = .ok (.goto 13, 3) := dk_167 0 13 (dk_at dksX5_next_2 8 rfl rfl)
theorem dX5_next_56 : decode cX5_next 56 = .ok (.aload_n 0, 1) := dk_42 (dk_at dksX5_next_2 11 rfl rfl)
theorem dX5_next_57 : decode cX5_next 57 = .ok (.iload 4, 2) := dk_21 4 (dk_at dksX5_next_2 12 rfl rfl)
theorem dX5_next_59 : decode cX5_next 59 = .ok (.invokevirtual 163, 3) := dk_182 0 163 (dk_at dksX5_next_2 14 rfl rfl)
theorem dX5_next_62 : decode cX5_next 62 = .ok (.lstore_n 2, 1) := dk_65 (dk_at dksX5_next_2 17 rfl rfl)
theorem dX5_next_63 : decode cX5_next 63 = .ok (.iload 4, 2) := dk_21 4 (dk_at dksX5_next_2 18 rfl rfl)
theorem dX5_next_65 : decode cX5_next 65 = .ok (.istore_n 1, 1) := dk_60 (dk_at dksX5_next_2 20 rfl rfl)
theorem dX5_next_66 : decode cX5_next 66 = .ok (.iinc 4 1, 3) := dk_132 4 1 (dk_at dksX5_next_2 21 rfl rfl)
theorem dX5_next_69 : decode cX5_next 69 = .ok (.goto (-60), 3) := dk_167 255 196 (dk_at dksX5_next_3 0 rfl rfl)
theorem dX5_next_72 : decode cX5_next 72 = .ok (.iload_n 1, 1) := dk_27 (dk_at dksX5_next_3 3 rfl rfl)
theorem dX5_next_73 : decode cX5_next 73 = .ok (.ireturn, 1) := dk_172 (dk_at dksX5_next_3 4 rfl rfl)
abbrev cX5_by : ByteArray := prog_17_method_14_code
def yX5_by : MethodName := ⟨RX5, "by", "(I)I"⟩
def dkwX5_by_1 : List UInt8 := [182, 0, 152, 161, 0, 5, 28, 172, 132, 2, 1, 167, 255, 225, 2, 172]
abbrev dktX5_by_1 : List UInt8 := dkwX5_by_1 ++ []
def dkwX5_by_0 : List UInt8 := [3, 61, 28, 42, 180, 0, 3, 182, 0, 148, 162, 0, 26, 42, 180, 0, 37, 28, 46, 42, 27, 28]
abbrev dktX5_by_0 : List UInt8 := dkwX5_by_0 ++ dktX5_by_1
theorem dksX5_by_0 : cX5_by.data.toList.drop 0 = dktX5_by_0 := by decide +kernel
theorem dksX5_by_1 : cX5_by.data.toList.drop 22 = dktX5_by_1 := dk_seg dksX5_by_0 22 rfl rfl
theorem dX5_by_0 : decode cX5_by 0 = .ok (.iconst 0, 1) := dk_3 (dk_at dksX5_by_0 0 rfl rfl)
theorem dX5_by_1 : decode cX5_by 1 = .ok (.istore_n 2, 1) := dk_61 (dk_at dksX5_by_0 1 rfl rfl)
theorem dX5_by_2 : decode cX5_by 2 = .ok (.iload_n 2, 1) := dk_28 (dk_at dksX5_by_0 2 rfl rfl)
theorem dX5_by_3 : decode cX5_by 3 = .ok (.aload_n 0, 1) := dk_42 (dk_at dksX5_by_0 3 rfl rfl)
theorem dX5_by_4 : decode cX5_by 4 = .ok (.getfield 3, 3) := dk_180 0 3 (dk_at dksX5_by_0 4 rfl rfl)
theorem dX5_by_7 : decode cX5_by 7 = .ok (.invokevirtual 148, 3) := dk_182 0 148 (dk_at dksX5_by_0 7 rfl rfl)
theorem dX5_by_10 : decode cX5_by 10 = .ok (.if_icmp .ge 26, 3) := dk_162 0 26 (dk_at dksX5_by_0 10 rfl rfl)
theorem dX5_by_13 : decode cX5_by 13 = .ok (.aload_n 0, 1) := dk_42 (dk_at dksX5_by_0 13 rfl rfl)
theorem dX5_by_14 : decode cX5_by 14 = .ok (.getfield 37, 3) := dk_180 0 37 (dk_at dksX5_by_0 14 rfl rfl)
theorem dX5_by_17 : decode cX5_by 17 = .ok (.iload_n 2, 1) := dk_28 (dk_at dksX5_by_0 17 rfl rfl)
theorem dX5_by_18 : decode cX5_by 18 = .ok (.iaload, 1) := dk_46 (dk_at dksX5_by_0 18 rfl rfl)
theorem dX5_by_19 : decode cX5_by 19 = .ok (.aload_n 0, 1) := dk_42 (dk_at dksX5_by_0 19 rfl rfl)
theorem dX5_by_20 : decode cX5_by 20 = .ok (.iload_n 1, 1) := dk_27 (dk_at dksX5_by_0 20 rfl rfl)
theorem dX5_by_21 : decode cX5_by 21 = .ok (.iload_n 2, 1) := dk_28 (dk_at dksX5_by_0 21 rfl rfl)
theorem dX5_by_22 : decode cX5_by 22 = .ok (.invokevirtual 152, 3) := dk_182 0 152 (dk_at dksX5_by_1 0 rfl rfl)
theorem dX5_by_25 : decode cX5_by 25 = .ok (.if_icmp .lt 5, 3) := dk_161 0 5 (dk_at dksX5_by_1 3 rfl rfl)
theorem dX5_by_28 : decode cX5_by 28 = .ok (.iload_n 2, 1) := dk_28 (dk_at dksX5_by_1 6 rfl rfl)
theorem dX5_by_29 : decode cX5_by 29 = .ok (.ireturn, 1) := dk_172 (dk_at dksX5_by_1 7 rfl rfl)
theorem dX5_by_30 : decode cX5_by 30 = .ok (.iinc 2 1, 3) := dk_132 2 1 (dk_at dksX5_by_1 8 rfl rfl)
theorem dX5_by_33 : decode cX5_by 33 = .ok (.goto (-31), 3) := dk_167 255 225 (dk_at dksX5_by_1 11 rfl rfl)
theorem dX5_by_36 : decode cX5_by 36 = .ok (.iconst (-1), 1) := dk_2 (dk_at dksX5_by_1 14 rfl rfl)
theorem dX5_by_37 : decode cX5_by 37 = .ok (.ireturn, 1) := dk_172 (dk_at dksX5_by_1 15 rfl rfl)
abbrev cX5_first : ByteArray := prog_17_method_10_code
def yX5_first : MethodName := ⟨RX5, "first", "(I)J"⟩
def dkwX5_first_1 : List UInt8 := [133, 167, 0, 19, 42, 42, 180, 0, 3, 180, 0, 101, 180, 0, 136, 27, 2, 182, 0, 120, 173]
abbrev dktX5_first_1 : List UInt8 := dkwX5_first_1 ++ []
def dkwX5_first_0 : List UInt8 := [42, 180, 0, 3, 180, 0, 101, 180, 0, 136, 199, 0, 18, 42, 180, 0, 3, 27, 182, 0, 60, 180, 0, 69]
abbrev dktX5_first_0 : List UInt8 := dkwX5_first_0 ++ dktX5_first_1
theorem dksX5_first_0 : cX5_first.data.toList.drop 0 = dktX5_first_0 := by decide +kernel
theorem dksX5_first_1 : cX5_first.data.toList.drop 24 = dktX5_first_1 := dk_seg dksX5_first_0 24 rfl rfl
theorem dX5_first_0 : decode cX5_first 0 = .ok (.aload_n 0, 1) := dk_42 (dk_at dksX5_first_0 0 rfl rfl)
theorem dX5_first_1 : decode cX5_first 1 = .ok (.getfield 3, 3) := dk_180 0 3 (dk_at dksX5_first_0 1 rfl rfl)
theorem dX5_first_4 : decode cX5_first 4 = .ok (.getfield 101, 3) := dk_180 0 101 (dk_at dksX5_first_0 4 rfl rfl)
theorem dX5_first_7 : decode cX5_first 7 = .ok (.getfield 136, 3) := dk_180 0 136 (dk_at dksX5_first_0 7 rfl rfl)
theorem dX5_first_10 : decode cX5_first 10 = .ok (.ifnonnull 18, 3) := dk_199 0 18 (dk_at dksX5_first_0 10 rfl rfl)
theorem dX5_first_13 : decode cX5_first 13 = .ok (.aload_n 0, 1) := dk_42 (dk_at dksX5_first_0 13 rfl rfl)
theorem dX5_first_14 : decode cX5_first 14 = .ok (.getfield 3, 3) := dk_180 0 3 (dk_at dksX5_first_0 14 rfl rfl)
theorem dX5_first_17 : decode cX5_first 17 = .ok (.iload_n 1, 1) := dk_27 (dk_at dksX5_first_0 17 rfl rfl)
theorem dX5_first_18 : decode cX5_first 18 = .ok (.invokevirtual 60, 3) := dk_182 0 60 (dk_at dksX5_first_0 18 rfl rfl)
theorem dX5_first_21 : decode cX5_first 21 = .ok (.getfield 69, 3) := dk_180 0 69 (dk_at dksX5_first_0 21 rfl rfl)
theorem dX5_first_24 : decode cX5_first 24 = .ok (.i2l, 1) := dk_133 (dk_at dksX5_first_1 0 rfl rfl)
theorem dX5_first_25 : decode cX5_first 25 = .ok (.goto 19, 3) := dk_167 0 19 (dk_at dksX5_first_1 1 rfl rfl)
theorem dX5_first_28 : decode cX5_first 28 = .ok (.aload_n 0, 1) := dk_42 (dk_at dksX5_first_1 4 rfl rfl)
theorem dX5_first_29 : decode cX5_first 29 = .ok (.aload_n 0, 1) := dk_42 (dk_at dksX5_first_1 5 rfl rfl)
theorem dX5_first_30 : decode cX5_first 30 = .ok (.getfield 3, 3) := dk_180 0 3 (dk_at dksX5_first_1 6 rfl rfl)
theorem dX5_first_33 : decode cX5_first 33 = .ok (.getfield 101, 3) := dk_180 0 101 (dk_at dksX5_first_1 9 rfl rfl)
theorem dX5_first_36 : decode cX5_first 36 = .ok (.getfield 136, 3) := dk_180 0 136 (dk_at dksX5_first_1 12 rfl rfl)
theorem dX5_first_39 : decode cX5_first 39 = .ok (.iload_n 1, 1) := dk_27 (dk_at dksX5_first_1 15 rfl rfl)
theorem dX5_first_40 : decode cX5_first 40 = .ok (.iconst (-1), 1) := dk_2 (dk_at dksX5_first_1 16 rfl rfl)
theorem dX5_first_41 : decode cX5_first 41 = .ok (.invokevirtual 120, 3) := dk_182 0 120 (dk_at dksX5_first_1 17 rfl rfl)
theorem dX5_first_44 : decode cX5_first 44 = .ok (.lreturn, 1) := dk_173 (dk_at dksX5_first_1 20 rfl rfl)
abbrev cX5_isMended : ByteArray := prog_17_method_13_code
def yX5_isMended : MethodName := ⟨RX5, "isMended", "(II)V"⟩
def dkwX5_isMended_2 : List UInt8 := [182, 0, 142, 177]
abbrev dktX5_isMended_2 : List UInt8 := dkwX5_isMended_2 ++ []
def dkwX5_isMended_1 : List UInt8 := [184, 0, 139, 79, 42, 180, 0, 25, 27, 29, 79, 42, 180, 0, 15, 27, 5, 79, 42, 27, 28, 4, 96]
abbrev dktX5_isMended_1 : List UInt8 := dkwX5_isMended_1 ++ dktX5_isMended_2
def dkwX5_isMended_0 : List UInt8 := [42, 27, 28, 182, 0, 146, 62, 42, 180, 0, 22, 27, 16, 99, 42, 180, 0, 22, 27, 46, 4, 96]
abbrev dktX5_isMended_0 : List UInt8 := dkwX5_isMended_0 ++ dktX5_isMended_1
theorem dksX5_isMended_0 : cX5_isMended.data.toList.drop 0 = dktX5_isMended_0 := by decide +kernel
theorem dksX5_isMended_1 : cX5_isMended.data.toList.drop 22 = dktX5_isMended_1 := dk_seg dksX5_isMended_0 22 rfl rfl
theorem dksX5_isMended_2 : cX5_isMended.data.toList.drop 45 = dktX5_isMended_2 := dk_seg dksX5_isMended_1 23 rfl rfl
theorem dX5_isMended_0 : decode cX5_isMended 0 = .ok (.aload_n 0, 1) := dk_42 (dk_at dksX5_isMended_0 0 rfl rfl)
theorem dX5_isMended_1 : decode cX5_isMended 1 = .ok (.iload_n 1, 1) := dk_27 (dk_at dksX5_isMended_0 1 rfl rfl)
theorem dX5_isMended_2 : decode cX5_isMended 2 = .ok (.iload_n 2, 1) := dk_28 (dk_at dksX5_isMended_0 2 rfl rfl)
theorem dX5_isMended_3 : decode cX5_isMended 3 = .ok (.invokevirtual 146, 3) := dk_182 0 146 (dk_at dksX5_isMended_0 3 rfl rfl)
theorem dX5_isMended_6 : decode cX5_isMended 6 = .ok (.istore_n 3, 1) := dk_62 (dk_at dksX5_isMended_0 6 rfl rfl)
theorem dX5_isMended_7 : decode cX5_isMended 7 = .ok (.aload_n 0, 1) := dk_42 (dk_at dksX5_isMended_0 7 rfl rfl)
theorem dX5_isMended_8 : decode cX5_isMended 8 = .ok (.getfield 22, 3) := dk_180 0 22 (dk_at dksX5_isMended_0 8 rfl rfl)
theorem dX5_isMended_11 : decode cX5_isMended 11 = .ok (.iload_n 1, 1) := dk_27 (dk_at dksX5_isMended_0 11 rfl rfl)
theorem dX5_isMended_12 : decode cX5_isMended 12 = .ok (.bipush 99, 2) := dk_16 99 (dk_at dksX5_isMended_0 12 rfl rfl)
theorem dX5_isMended_14 : decode cX5_isMended 14 = .ok (.aload_n 0, 1) := dk_42 (dk_at dksX5_isMended_0 14 rfl rfl)
theorem dX5_isMended_15 : decode cX5_isMended 15 = .ok (.getfield 22, 3) := dk_180 0 22 (dk_at dksX5_isMended_0 15 rfl rfl)
theorem dX5_isMended_18 : decode cX5_isMended 18 = .ok (.iload_n 1, 1) := dk_27 (dk_at dksX5_isMended_0 18 rfl rfl)
theorem dX5_isMended_19 : decode cX5_isMended 19 = .ok (.iaload, 1) := dk_46 (dk_at dksX5_isMended_0 19 rfl rfl)
theorem dX5_isMended_20 : decode cX5_isMended 20 = .ok (.iconst 1, 1) := dk_4 (dk_at dksX5_isMended_0 20 rfl rfl)
theorem dX5_isMended_21 : decode cX5_isMended 21 = .ok (.iadd, 1) := dk_96 (dk_at dksX5_isMended_0 21 rfl rfl)
theorem dX5_isMended_22 : decode cX5_isMended 22 = .ok (.invokestatic 139, 3) := dk_184 0 139 (dk_at dksX5_isMended_1 0 rfl rfl)
theorem dX5_isMended_25 : decode cX5_isMended 25 = .ok (.iastore, 1) := dk_79 (dk_at dksX5_isMended_1 3 rfl rfl)
theorem dX5_isMended_26 : decode cX5_isMended 26 = .ok (.aload_n 0, 1) := dk_42 (dk_at dksX5_isMended_1 4 rfl rfl)
theorem dX5_isMended_27 : decode cX5_isMended 27 = .ok (.getfield 25, 3) := dk_180 0 25 (dk_at dksX5_isMended_1 5 rfl rfl)
theorem dX5_isMended_30 : decode cX5_isMended 30 = .ok (.iload_n 1, 1) := dk_27 (dk_at dksX5_isMended_1 8 rfl rfl)
theorem dX5_isMended_31 : decode cX5_isMended 31 = .ok (.iload_n 3, 1) := dk_29 (dk_at dksX5_isMended_1 9 rfl rfl)
theorem dX5_isMended_32 : decode cX5_isMended 32 = .ok (.iastore, 1) := dk_79 (dk_at dksX5_isMended_1 10 rfl rfl)
theorem dX5_isMended_33 : decode cX5_isMended 33 = .ok (.aload_n 0, 1) := dk_42 (dk_at dksX5_isMended_1 11 rfl rfl)
theorem dX5_isMended_34 : decode cX5_isMended 34 = .ok (.getfield 15, 3) := dk_180 0 15 (dk_at dksX5_isMended_1 12 rfl rfl)
theorem dX5_isMended_37 : decode cX5_isMended 37 = .ok (.iload_n 1, 1) := dk_27 (dk_at dksX5_isMended_1 15 rfl rfl)
theorem dX5_isMended_38 : decode cX5_isMended 38 = .ok (.iconst 2, 1) := dk_5 (dk_at dksX5_isMended_1 16 rfl rfl)
theorem dX5_isMended_39 : decode cX5_isMended 39 = .ok (.iastore, 1) := dk_79 (dk_at dksX5_isMended_1 17 rfl rfl)
theorem dX5_isMended_40 : decode cX5_isMended 40 = .ok (.aload_n 0, 1) := dk_42 (dk_at dksX5_isMended_1 18 rfl rfl)
theorem dX5_isMended_41 : decode cX5_isMended 41 = .ok (.iload_n 1, 1) := dk_27 (dk_at dksX5_isMended_1 19 rfl rfl)
theorem dX5_isMended_42 : decode cX5_isMended 42 = .ok (.iload_n 2, 1) := dk_28 (dk_at dksX5_isMended_1 20 rfl rfl)
theorem dX5_isMended_43 : decode cX5_isMended 43 = .ok (.iconst 1, 1) := dk_4 (dk_at dksX5_isMended_1 21 rfl rfl)
theorem dX5_isMended_44 : decode cX5_isMended 44 = .ok (.iadd, 1) := dk_96 (dk_at dksX5_isMended_1 22 rfl rfl)
theorem dX5_isMended_45 : decode cX5_isMended 45 = .ok (.invokevirtual 142, 3) := dk_182 0 142 (dk_at dksX5_isMended_2 0 rfl rfl)
theorem dX5_isMended_48 : decode cX5_isMended 48 = .ok (.return_, 1) := dk_177 (dk_at dksX5_isMended_2 3 rfl rfl)
theorem q169 : (Jvm.Cond.initialized "MendedThings$State") ∈ lw_all := lw_g (lw_at lw_m1 12 rfl) rfl
theorem q254 : (Jvm.Cond.fieldLinkNest "MendedThings$State" (105 : Nat) "MendedThings$Island" "stands" "LMendedThings$Test;" "MendedThings") ∈ lw_tbl := lw_at lw_m1 97 rfl
theorem q256 : (Jvm.Cond.fieldLinkNest "MendedThings$State" (169 : Nat) "MendedThings$Island" "falls" "LMendedThings$Test;" "MendedThings") ∈ lw_tbl := lw_at lw_m1 99 rfl
theorem q258 : (Jvm.Cond.fieldLinkNest "MendedThings$State" (114 : Nat) "MendedThings$Island" "takes" "LMendedThings$Value;" "MendedThings") ∈ lw_tbl := lw_at lw_m1 101 rfl
theorem q260 : (Jvm.Cond.fieldLinkNest "MendedThings$State" (133 : Nat) "MendedThings$Island" "fine" "LMendedThings$Value;" "MendedThings") ∈ lw_tbl := lw_at lw_m1 103 rfl
theorem q262 : (Jvm.Cond.fieldLinkNest "MendedThings$State" (136 : Nat) "MendedThings$Island" "first" "LMendedThings$Value;" "MendedThings") ∈ lw_tbl := lw_at lw_m1 105 rfl
theorem q397 : (Jvm.Cond.fieldLinkNest "MendedThings$State" (54 : Nat) "MendedThings$Moment" "of" "[J" "MendedThings") ∈ lw_tbl := lw_at lw_m2 0 rfl
theorem q404 : (Jvm.Cond.instantiable "MendedThings$State" (13 : Nat)) ∈ lw_all := lw_g (lw_at lw_m2 7 rfl) rfl
theorem q406 : (Jvm.Cond.instanceMethod ({ cls := "MendedThings$State", name := "<init>", desc := "(LMendedThings;)V" } : Jvm.MethodName)) ∈ lw_all := lw_g (lw_at lw_m2 9 rfl) rfl
theorem q407 : (Jvm.Cond.code ({ cls := "MendedThings$State", name := "<init>", desc := "(LMendedThings;)V" } : Jvm.MethodName) prog_17_method_1_code (2 : Nat) (Option.none : Option Jvm.ClassFile.FieldType)) ∈ lw_all := lw_g (lw_at lw_m2 10 rfl) rfl
theorem q408 : (Jvm.Cond.methodLink "MendedThings$State" (9 : Nat) ({ cls := "java/lang/Object", name := "<init>", desc := "()V" } : Jvm.MethodName)) ∈ lw_all := lw_g (lw_at lw_m2 11 rfl) rfl
theorem q409 : (Jvm.Cond.classLink "MendedThings$State" (32 : Nat) "[[I") ∈ lw_all := lw_g (lw_at lw_m2 12 rfl) rfl
theorem q411 : (Jvm.Cond.fieldLink "MendedThings$State" (40 : Nat) "MendedThings$State" "day" "I") ∈ lw_all := lw_g (lw_at lw_m2 14 rfl) rfl
theorem q413 : (Jvm.Cond.fieldLink "MendedThings$State" (44 : Nat) "MendedThings$State" "keeps" "I") ∈ lw_all := lw_g (lw_at lw_m2 16 rfl) rfl
theorem q415 : (Jvm.Cond.fieldLink "MendedThings$State" (15 : Nat) "MendedThings$State" "is" "[I") ∈ lw_all := lw_g (lw_at lw_m2 18 rfl) rfl
theorem q417 : (Jvm.Cond.fieldLink "MendedThings$State" (19 : Nat) "MendedThings$State" "breaks" "[I") ∈ lw_all := lw_g (lw_at lw_m2 20 rfl) rfl
theorem q419 : (Jvm.Cond.fieldLink "MendedThings$State" (22 : Nat) "MendedThings$State" "mends" "[I") ∈ lw_all := lw_g (lw_at lw_m2 22 rfl) rfl
theorem q421 : (Jvm.Cond.fieldLink "MendedThings$State" (25 : Nat) "MendedThings$State" "glue" "[I") ∈ lw_all := lw_g (lw_at lw_m2 24 rfl) rfl
theorem q423 : (Jvm.Cond.fieldLink "MendedThings$State" (28 : Nat) "MendedThings$State" "isForged" "[Z") ∈ lw_all := lw_g (lw_at lw_m2 26 rfl) rfl
theorem q425 : (Jvm.Cond.fieldLink "MendedThings$State" (34 : Nat) "MendedThings$State" "rows" "[[I") ∈ lw_all := lw_g (lw_at lw_m2 28 rfl) rfl
theorem q427 : (Jvm.Cond.fieldLink "MendedThings$State" (166 : Nat) "MendedThings$State" "broke" "I") ∈ lw_all := lw_g (lw_at lw_m2 30 rfl) rfl
theorem q429 : (Jvm.Cond.fieldLink "MendedThings$State" (47 : Nat) "MendedThings$State" "other" "I") ∈ lw_all := lw_g (lw_at lw_m2 32 rfl) rfl
theorem q431 : (Jvm.Cond.fieldLink "MendedThings$State" (72 : Nat) "MendedThings$State" "frail" "I") ∈ lw_all := lw_g (lw_at lw_m2 34 rfl) rfl
theorem q433 : (Jvm.Cond.fieldLink "MendedThings$State" (37 : Nat) "MendedThings$State" "left" "[I") ∈ lw_all := lw_g (lw_at lw_m2 36 rfl) rfl
theorem q434 : (Jvm.Cond.fieldLink "MendedThings$State" (3 : Nat) "MendedThings$State" "this$0" "LMendedThings;") ∈ lw_all := lw_g (lw_at lw_m2 37 rfl) rfl
theorem q435 : (Jvm.Cond.lays "MendedThings$State" "MendedThings$State" "day" "I") ∈ lw_all := lw_g (lw_at lw_m2 38 rfl) rfl
theorem q436 : (Jvm.Cond.soleField "MendedThings$State" "day") ∈ lw_all := lw_g (lw_at lw_m2 39 rfl) rfl
theorem q437 : (Jvm.Cond.lays "MendedThings$State" "MendedThings$State" "keeps" "I") ∈ lw_all := lw_g (lw_at lw_m2 40 rfl) rfl
theorem q438 : (Jvm.Cond.soleField "MendedThings$State" "keeps") ∈ lw_all := lw_g (lw_at lw_m2 41 rfl) rfl
theorem q439 : (Jvm.Cond.laysFinal "MendedThings$State" "MendedThings$State" "is" "[I") ∈ lw_all := lw_g (lw_at lw_m2 42 rfl) rfl
theorem q440 : (Jvm.Cond.soleField "MendedThings$State" "is") ∈ lw_all := lw_g (lw_at lw_m2 43 rfl) rfl
theorem q441 : (Jvm.Cond.laysFinal "MendedThings$State" "MendedThings$State" "breaks" "[I") ∈ lw_all := lw_g (lw_at lw_m2 44 rfl) rfl
theorem q442 : (Jvm.Cond.soleField "MendedThings$State" "breaks") ∈ lw_all := lw_g (lw_at lw_m2 45 rfl) rfl
theorem q443 : (Jvm.Cond.laysFinal "MendedThings$State" "MendedThings$State" "mends" "[I") ∈ lw_all := lw_g (lw_at lw_m2 46 rfl) rfl
theorem q444 : (Jvm.Cond.soleField "MendedThings$State" "mends") ∈ lw_all := lw_g (lw_at lw_m2 47 rfl) rfl
theorem q445 : (Jvm.Cond.laysFinal "MendedThings$State" "MendedThings$State" "glue" "[I") ∈ lw_all := lw_g (lw_at lw_m2 48 rfl) rfl
theorem q446 : (Jvm.Cond.soleField "MendedThings$State" "glue") ∈ lw_all := lw_g (lw_at lw_m2 49 rfl) rfl
theorem q447 : (Jvm.Cond.laysFinal "MendedThings$State" "MendedThings$State" "isForged" "[Z") ∈ lw_all := lw_g (lw_at lw_m2 50 rfl) rfl
theorem q448 : (Jvm.Cond.soleField "MendedThings$State" "isForged") ∈ lw_all := lw_g (lw_at lw_m2 51 rfl) rfl
theorem q449 : (Jvm.Cond.laysFinal "MendedThings$State" "MendedThings$State" "rows" "[[I") ∈ lw_all := lw_g (lw_at lw_m2 52 rfl) rfl
theorem q450 : (Jvm.Cond.soleField "MendedThings$State" "rows") ∈ lw_all := lw_g (lw_at lw_m2 53 rfl) rfl
theorem q451 : (Jvm.Cond.lays "MendedThings$State" "MendedThings$State" "broke" "I") ∈ lw_all := lw_g (lw_at lw_m2 54 rfl) rfl
theorem q452 : (Jvm.Cond.soleField "MendedThings$State" "broke") ∈ lw_all := lw_g (lw_at lw_m2 55 rfl) rfl
theorem q453 : (Jvm.Cond.lays "MendedThings$State" "MendedThings$State" "other" "I") ∈ lw_all := lw_g (lw_at lw_m2 56 rfl) rfl
theorem q454 : (Jvm.Cond.soleField "MendedThings$State" "other") ∈ lw_all := lw_g (lw_at lw_m2 57 rfl) rfl
theorem q455 : (Jvm.Cond.lays "MendedThings$State" "MendedThings$State" "frail" "I") ∈ lw_all := lw_g (lw_at lw_m2 58 rfl) rfl
theorem q456 : (Jvm.Cond.soleField "MendedThings$State" "frail") ∈ lw_all := lw_g (lw_at lw_m2 59 rfl) rfl
theorem q457 : (Jvm.Cond.laysFinal "MendedThings$State" "MendedThings$State" "left" "[I") ∈ lw_all := lw_g (lw_at lw_m2 60 rfl) rfl
theorem q458 : (Jvm.Cond.soleField "MendedThings$State" "left") ∈ lw_all := lw_g (lw_at lw_m2 61 rfl) rfl
theorem q459 : (Jvm.Cond.laysFinal "MendedThings$State" "MendedThings$State" "this$0" "LMendedThings;") ∈ lw_all := lw_g (lw_at lw_m2 62 rfl) rfl
theorem q460 : (Jvm.Cond.soleField "MendedThings$State" "this$0") ∈ lw_all := lw_g (lw_at lw_m2 63 rfl) rfl
theorem q461 : (Jvm.Cond.superclass "MendedThings$State" "java/lang/Object") ∈ lw_all := lw_g (lw_at lw_m2 64 rfl) rfl
theorem q466 : (Jvm.Cond.instanceMethod ({ cls := "MendedThings$State", name := "begins", desc := "()V" } : Jvm.MethodName)) ∈ lw_all := lw_g (lw_at lw_m2 69 rfl) rfl
theorem q467 : (Jvm.Cond.selects "MendedThings$State" ({ cls := "MendedThings$State", name := "begins", desc := "()V" } : Jvm.MethodName) ({ cls := "MendedThings$State", name := "begins", desc := "()V" } : Jvm.MethodName)) ∈ lw_all := lw_g (lw_at lw_m2 70 rfl) rfl
theorem q468 : (Jvm.Cond.code ({ cls := "MendedThings$State", name := "begins", desc := "()V" } : Jvm.MethodName) prog_17_method_2_code (2 : Nat) (Option.none : Option Jvm.ClassFile.FieldType)) ∈ lw_all := lw_g (lw_at lw_m2 71 rfl) rfl
theorem q470 : (Jvm.Cond.fieldLinkNest "MendedThings$State" (101 : Nat) "MendedThings" "island" "LMendedThings$Island;" "MendedThings") ∈ lw_tbl := lw_at lw_m2 73 rfl
theorem q477 : (Jvm.Cond.fieldLinkNest "MendedThings$State" (50 : Nat) "MendedThings" "moment" "LMendedThings$Moment;" "MendedThings") ∈ lw_tbl := lw_at lw_m2 80 rfl
theorem q829 : (Jvm.Cond.fieldLinkNest "MendedThings$State" (64 : Nat) "MendedThings$Thing" "worth" "I" "MendedThings") ∈ lw_tbl := lw_at lw_m3 192 rfl
theorem q832 : (Jvm.Cond.fieldLinkNest "MendedThings$State" (69 : Nat) "MendedThings$Thing" "use" "I" "MendedThings") ∈ lw_tbl := lw_at lw_m3 195 rfl
theorem q835 : (Jvm.Cond.fieldLinkNest "MendedThings$State" (75 : Nat) "MendedThings$Thing" "frail" "I" "MendedThings") ∈ lw_tbl := lw_at lw_m3 198 rfl
theorem q901 : (Jvm.Cond.selects "MendedThings$State" ({ cls := "java/lang/Object", name := "getClass", desc := "()Ljava/lang/Class;" } : Jvm.MethodName) ({ cls := "java/lang/Object", name := "getClass", desc := "()Ljava/lang/Class;" } : Jvm.MethodName)) ∈ lw_all := lw_g (lw_at lw_m4 24 rfl) rfl
theorem q932 : (Jvm.Cond.fieldLinkNest "MendedThings$State" (90 : Nat) "MendedThings$Mender" "skill" "I" "MendedThings") ∈ lw_tbl := lw_at lw_m4 55 rfl
theorem q935 : (Jvm.Cond.fieldLinkNest "MendedThings$State" (178 : Nat) "MendedThings$Mender" "hours" "I" "MendedThings") ∈ lw_tbl := lw_at lw_m4 58 rfl
theorem q1264 : (Jvm.Cond.instanceMethod ({ cls := "MendedThings$State", name := "are", desc := "(I)I" } : Jvm.MethodName)) ∈ lw_all := lw_g (lw_at lw_m5 147 rfl) rfl
theorem q1265 : (Jvm.Cond.selects "MendedThings$State" ({ cls := "MendedThings$State", name := "are", desc := "(I)I" } : Jvm.MethodName) ({ cls := "MendedThings$State", name := "are", desc := "(I)I" } : Jvm.MethodName)) ∈ lw_all := lw_g (lw_at lw_m5 148 rfl) rfl
theorem q1266 : (Jvm.Cond.code ({ cls := "MendedThings$State", name := "are", desc := "(I)I" } : Jvm.MethodName) prog_17_method_17_code (4 : Nat) (Option.some Jvm.ClassFile.FieldType.int)) ∈ lw_all := lw_g (lw_at lw_m5 149 rfl) rfl
theorem q1267 : (Jvm.Cond.methodLinkNest "MendedThings$State" (156 : Nat) ({ cls := "MendedThings", name := "things", desc := "()I" } : Jvm.MethodName) "MendedThings") ∈ lw_tbl := lw_at lw_m5 150 rfl
theorem q1275 : (Jvm.Cond.instanceMethod ({ cls := "MendedThings$State", name := "standing", desc := "()I" } : Jvm.MethodName)) ∈ lw_all := lw_g (lw_at lw_m5 158 rfl) rfl
theorem q1276 : (Jvm.Cond.selects "MendedThings$State" ({ cls := "MendedThings$State", name := "standing", desc := "()I" } : Jvm.MethodName) ({ cls := "MendedThings$State", name := "standing", desc := "()I" } : Jvm.MethodName)) ∈ lw_all := lw_g (lw_at lw_m5 159 rfl) rfl
theorem q1277 : (Jvm.Cond.code ({ cls := "MendedThings$State", name := "standing", desc := "()I" } : Jvm.MethodName) prog_17_method_18_code (3 : Nat) (Option.some Jvm.ClassFile.FieldType.int)) ∈ lw_all := lw_g (lw_at lw_m5 160 rfl) rfl
theorem q1278 : (Jvm.Cond.methodLink "MendedThings$State" (192 : Nat) ({ cls := "MendedThings$State", name := "stands", desc := "(I)Z" } : Jvm.MethodName)) ∈ lw_all := lw_g (lw_at lw_m5 161 rfl) rfl
theorem q1279 : (Jvm.Cond.instanceMethod ({ cls := "MendedThings$State", name := "stands", desc := "(I)Z" } : Jvm.MethodName)) ∈ lw_all := lw_g (lw_at lw_m5 162 rfl) rfl
theorem q1280 : (Jvm.Cond.selects "MendedThings$State" ({ cls := "MendedThings$State", name := "stands", desc := "(I)Z" } : Jvm.MethodName) ({ cls := "MendedThings$State", name := "stands", desc := "(I)Z" } : Jvm.MethodName)) ∈ lw_all := lw_g (lw_at lw_m5 163 rfl) rfl
theorem q1281 : (Jvm.Cond.code ({ cls := "MendedThings$State", name := "stands", desc := "(I)Z" } : Jvm.MethodName) prog_17_method_7_code (2 : Nat) (Option.some Jvm.ClassFile.FieldType.boolean)) ∈ lw_all := lw_g (lw_at lw_m5 164 rfl) rfl
theorem q1282 : (Jvm.Cond.methodLink "MendedThings$State" (111 : Nat) ({ cls := "MendedThings$State", name := "holds", desc := "(LMendedThings$Test;I)Z" } : Jvm.MethodName)) ∈ lw_all := lw_g (lw_at lw_m5 165 rfl) rfl
theorem q1283 : (Jvm.Cond.privateMethod ({ cls := "MendedThings$State", name := "holds", desc := "(LMendedThings$Test;I)Z" } : Jvm.MethodName)) ∈ lw_tbl := lw_at lw_m5 166 rfl
theorem q1284 : (Jvm.Cond.instanceMethod ({ cls := "MendedThings$State", name := "holds", desc := "(LMendedThings$Test;I)Z" } : Jvm.MethodName)) ∈ lw_all := lw_g (lw_at lw_m5 167 rfl) rfl
theorem q1285 : (Jvm.Cond.code ({ cls := "MendedThings$State", name := "holds", desc := "(LMendedThings$Test;I)Z" } : Jvm.MethodName) prog_17_method_5_code (3 : Nat) (Option.some Jvm.ClassFile.FieldType.boolean)) ∈ lw_all := lw_g (lw_at lw_m5 168 rfl) rfl
theorem q1286 : (Jvm.Cond.methodLink "MendedThings$State" (76 : Nat) ({ cls := "MendedThings$State", name := "asks", desc := "(I)V" } : Jvm.MethodName)) ∈ lw_all := lw_g (lw_at lw_m5 169 rfl) rfl
theorem q1287 : (Jvm.Cond.privateMethod ({ cls := "MendedThings$State", name := "asks", desc := "(I)V" } : Jvm.MethodName)) ∈ lw_tbl := lw_at lw_m5 170 rfl
theorem q1288 : (Jvm.Cond.instanceMethod ({ cls := "MendedThings$State", name := "asks", desc := "(I)V" } : Jvm.MethodName)) ∈ lw_all := lw_g (lw_at lw_m5 171 rfl) rfl
theorem q1289 : (Jvm.Cond.code ({ cls := "MendedThings$State", name := "asks", desc := "(I)V" } : Jvm.MethodName) prog_17_method_4_code (2 : Nat) (Option.none : Option Jvm.ClassFile.FieldType)) ∈ lw_all := lw_g (lw_at lw_m5 172 rfl) rfl
theorem q1290 : (Jvm.Cond.methodLinkNest "MendedThings$State" (60 : Nat) ({ cls := "MendedThings", name := "thingOf", desc := "(I)LMendedThings$Thing;" } : Jvm.MethodName) "MendedThings") ∈ lw_tbl := lw_at lw_m5 173 rfl
theorem q1297 : (Jvm.Cond.methodLink "MendedThings$State" (80 : Nat) ({ cls := "MendedThings$Test", name := "holds", desc := "(LMendedThings$Moment;)Z" } : Jvm.MethodName)) ∈ lw_all := lw_g (lw_at lw_m5 180 rfl) rfl
theorem q1385 : (Jvm.Cond.instanceMethod ({ cls := "MendedThings$State", name := "forged", desc := "()I" } : Jvm.MethodName)) ∈ lw_all := lw_g (lw_at lw_m6 28 rfl) rfl
theorem q1386 : (Jvm.Cond.selects "MendedThings$State" ({ cls := "MendedThings$State", name := "forged", desc := "()I" } : Jvm.MethodName) ({ cls := "MendedThings$State", name := "forged", desc := "()I" } : Jvm.MethodName)) ∈ lw_all := lw_g (lw_at lw_m6 29 rfl) rfl
theorem q1387 : (Jvm.Cond.code ({ cls := "MendedThings$State", name := "forged", desc := "()I" } : Jvm.MethodName) prog_17_method_19_code (3 : Nat) (Option.some Jvm.ClassFile.FieldType.int)) ∈ lw_all := lw_g (lw_at lw_m6 30 rfl) rfl
theorem q1446 : (Jvm.Cond.instanceMethod ({ cls := "MendedThings$State", name := "takes", desc := "(II)I" } : Jvm.MethodName)) ∈ lw_all := lw_g (lw_at lw_m6 89 rfl) rfl
theorem q1447 : (Jvm.Cond.selects "MendedThings$State" ({ cls := "MendedThings$State", name := "takes", desc := "(II)I" } : Jvm.MethodName) ({ cls := "MendedThings$State", name := "takes", desc := "(II)I" } : Jvm.MethodName)) ∈ lw_all := lw_g (lw_at lw_m6 90 rfl) rfl
theorem q1448 : (Jvm.Cond.code ({ cls := "MendedThings$State", name := "takes", desc := "(II)I" } : Jvm.MethodName) prog_17_method_8_code (3 : Nat) (Option.some Jvm.ClassFile.FieldType.int)) ∈ lw_all := lw_g (lw_at lw_m6 91 rfl) rfl
theorem q1449 : (Jvm.Cond.constantLong "MendedThings$State" (118 : Nat) (99 : Int64)) ∈ lw_all := lw_g (lw_at lw_m6 92 rfl) rfl
theorem q1450 : (Jvm.Cond.methodLink "MendedThings$State" (120 : Nat) ({ cls := "MendedThings$State", name := "sum", desc := "(LMendedThings$Value;II)J" } : Jvm.MethodName)) ∈ lw_all := lw_g (lw_at lw_m6 93 rfl) rfl
theorem q1451 : (Jvm.Cond.privateMethod ({ cls := "MendedThings$State", name := "sum", desc := "(LMendedThings$Value;II)J" } : Jvm.MethodName)) ∈ lw_tbl := lw_at lw_m6 94 rfl
theorem q1452 : (Jvm.Cond.instanceMethod ({ cls := "MendedThings$State", name := "sum", desc := "(LMendedThings$Value;II)J" } : Jvm.MethodName)) ∈ lw_all := lw_g (lw_at lw_m6 95 rfl) rfl
theorem q1453 : (Jvm.Cond.code ({ cls := "MendedThings$State", name := "sum", desc := "(LMendedThings$Value;II)J" } : Jvm.MethodName) prog_17_method_6_code (4 : Nat) (Option.some Jvm.ClassFile.FieldType.long)) ∈ lw_all := lw_g (lw_at lw_m6 96 rfl) rfl
theorem q1454 : (Jvm.Cond.methodLinkNest "MendedThings$State" (86 : Nat) ({ cls := "MendedThings", name := "menderOf", desc := "(I)LMendedThings$Mender;" } : Jvm.MethodName) "MendedThings") ∈ lw_tbl := lw_at lw_m6 97 rfl
theorem q1455 : (Jvm.Cond.methodLink "MendedThings$State" (95 : Nat) ({ cls := "MendedThings$Value", name := "at", desc := "(LMendedThings$Moment;)J" } : Jvm.MethodName)) ∈ lw_all := lw_g (lw_at lw_m6 98 rfl) rfl
theorem q1456 : (Jvm.Cond.methodLink "MendedThings$State" (124 : Nat) ({ cls := "java/lang/Math", name := "min", desc := "(JJ)J" } : Jvm.MethodName)) ∈ lw_all := lw_g (lw_at lw_m6 99 rfl) rfl
theorem q1457 : (Jvm.Cond.methodLink "MendedThings$State" (130 : Nat) ({ cls := "java/lang/Math", name := "max", desc := "(JJ)J" } : Jvm.MethodName)) ∈ lw_all := lw_g (lw_at lw_m6 100 rfl) rfl
theorem q1463 : (Jvm.Cond.instanceMethod ({ cls := "MendedThings$State", name := "fine", desc := "(II)I" } : Jvm.MethodName)) ∈ lw_all := lw_g (lw_at lw_m6 106 rfl) rfl
theorem q1464 : (Jvm.Cond.selects "MendedThings$State" ({ cls := "MendedThings$State", name := "fine", desc := "(II)I" } : Jvm.MethodName) ({ cls := "MendedThings$State", name := "fine", desc := "(II)I" } : Jvm.MethodName)) ∈ lw_all := lw_g (lw_at lw_m6 107 rfl) rfl
theorem q1465 : (Jvm.Cond.code ({ cls := "MendedThings$State", name := "fine", desc := "(II)I" } : Jvm.MethodName) prog_17_method_9_code (3 : Nat) (Option.some Jvm.ClassFile.FieldType.int)) ∈ lw_all := lw_g (lw_at lw_m6 108 rfl) rfl
theorem q1487 : (Jvm.Cond.instanceMethod ({ cls := "MendedThings$State", name := "copy", desc := "(LMendedThings$State;)LMendedThings$State;" } : Jvm.MethodName)) ∈ lw_all := lw_g (lw_at lw_m6 130 rfl) rfl
theorem q1488 : (Jvm.Cond.selects "MendedThings$State" ({ cls := "MendedThings$State", name := "copy", desc := "(LMendedThings$State;)LMendedThings$State;" } : Jvm.MethodName) ({ cls := "MendedThings$State", name := "copy", desc := "(LMendedThings$State;)LMendedThings$State;" } : Jvm.MethodName)) ∈ lw_all := lw_g (lw_at lw_m6 131 rfl) rfl
theorem q1489 : (Jvm.Cond.code ({ cls := "MendedThings$State", name := "copy", desc := "(LMendedThings$State;)LMendedThings$State;" } : Jvm.MethodName) prog_17_method_3_code (4 : Nat) (Option.some (Jvm.ClassFile.FieldType.object "MendedThings$State"))) ∈ lw_all := lw_g (lw_at lw_m6 132 rfl) rfl
theorem q1491 : (Jvm.Cond.instanceMethod ({ cls := "MendedThings$State", name := "passes", desc := "()I" } : Jvm.MethodName)) ∈ lw_all := lw_g (lw_at lw_m6 134 rfl) rfl
theorem q1492 : (Jvm.Cond.selects "MendedThings$State" ({ cls := "MendedThings$State", name := "passes", desc := "()I" } : Jvm.MethodName) ({ cls := "MendedThings$State", name := "passes", desc := "()I" } : Jvm.MethodName)) ∈ lw_all := lw_g (lw_at lw_m6 135 rfl) rfl
theorem q1493 : (Jvm.Cond.code ({ cls := "MendedThings$State", name := "passes", desc := "()I" } : Jvm.MethodName) prog_17_method_16_code (3 : Nat) (Option.some Jvm.ClassFile.FieldType.int)) ∈ lw_all := lw_g (lw_at lw_m6 136 rfl) rfl
theorem q1494 : (Jvm.Cond.methodLinkNest "MendedThings$State" (172 : Nat) ({ cls := "MendedThings", name := "has", desc := "(II)Z" } : Jvm.MethodName) "MendedThings") ∈ lw_tbl := lw_at lw_m6 137 rfl
theorem q1495 : (Jvm.Cond.methodLink "MendedThings$State" (176 : Nat) ({ cls := "MendedThings$State", name := "breaks", desc := "(I)V" } : Jvm.MethodName)) ∈ lw_all := lw_g (lw_at lw_m6 138 rfl) rfl
theorem q1496 : (Jvm.Cond.instanceMethod ({ cls := "MendedThings$State", name := "breaks", desc := "(I)V" } : Jvm.MethodName)) ∈ lw_all := lw_g (lw_at lw_m6 139 rfl) rfl
theorem q1497 : (Jvm.Cond.selects "MendedThings$State" ({ cls := "MendedThings$State", name := "breaks", desc := "(I)V" } : Jvm.MethodName) ({ cls := "MendedThings$State", name := "breaks", desc := "(I)V" } : Jvm.MethodName)) ∈ lw_all := lw_g (lw_at lw_m6 140 rfl) rfl
theorem q1498 : (Jvm.Cond.code ({ cls := "MendedThings$State", name := "breaks", desc := "(I)V" } : Jvm.MethodName) prog_17_method_12_code (2 : Nat) (Option.none : Option Jvm.ClassFile.FieldType)) ∈ lw_all := lw_g (lw_at lw_m6 141 rfl) rfl
theorem q1499 : (Jvm.Cond.methodLink "MendedThings$State" (139 : Nat) ({ cls := "java/lang/Math", name := "min", desc := "(II)I" } : Jvm.MethodName)) ∈ lw_all := lw_g (lw_at lw_m6 142 rfl) rfl
theorem q1500 : (Jvm.Cond.methodLink "MendedThings$State" (142 : Nat) ({ cls := "MendedThings$State", name := "tells", desc := "(II)V" } : Jvm.MethodName)) ∈ lw_all := lw_g (lw_at lw_m6 143 rfl) rfl
theorem q1501 : (Jvm.Cond.privateMethod ({ cls := "MendedThings$State", name := "tells", desc := "(II)V" } : Jvm.MethodName)) ∈ lw_tbl := lw_at lw_m6 144 rfl
theorem q1502 : (Jvm.Cond.instanceMethod ({ cls := "MendedThings$State", name := "tells", desc := "(II)V" } : Jvm.MethodName)) ∈ lw_all := lw_g (lw_at lw_m6 145 rfl) rfl
theorem q1503 : (Jvm.Cond.code ({ cls := "MendedThings$State", name := "tells", desc := "(II)V" } : Jvm.MethodName) prog_17_method_11_code (5 : Nat) (Option.none : Option Jvm.ClassFile.FieldType)) ∈ lw_all := lw_g (lw_at lw_m6 146 rfl) rfl
theorem q1504 : (Jvm.Cond.methodLinkNest "MendedThings$State" (148 : Nat) ({ cls := "MendedThings", name := "menders", desc := "()I" } : Jvm.MethodName) "MendedThings") ∈ lw_tbl := lw_at lw_m6 147 rfl
theorem q1505 : (Jvm.Cond.methodLink "MendedThings$State" (181 : Nat) ({ cls := "MendedThings$State", name := "next", desc := "()I" } : Jvm.MethodName)) ∈ lw_all := lw_g (lw_at lw_m6 148 rfl) rfl
theorem q1506 : (Jvm.Cond.privateMethod ({ cls := "MendedThings$State", name := "next", desc := "()I" } : Jvm.MethodName)) ∈ lw_tbl := lw_at lw_m6 149 rfl
theorem q1507 : (Jvm.Cond.instanceMethod ({ cls := "MendedThings$State", name := "next", desc := "()I" } : Jvm.MethodName)) ∈ lw_all := lw_g (lw_at lw_m6 150 rfl) rfl
theorem q1508 : (Jvm.Cond.code ({ cls := "MendedThings$State", name := "next", desc := "()I" } : Jvm.MethodName) prog_17_method_15_code (5 : Nat) (Option.some Jvm.ClassFile.FieldType.int)) ∈ lw_all := lw_g (lw_at lw_m6 151 rfl) rfl
theorem q1509 : (Jvm.Cond.constantLong "MendedThings$State" (154 : Nat) (-9223372036854775808 : Int64)) ∈ lw_all := lw_g (lw_at lw_m6 152 rfl) rfl
theorem q1510 : (Jvm.Cond.methodLink "MendedThings$State" (159 : Nat) ({ cls := "MendedThings$State", name := "by", desc := "(I)I" } : Jvm.MethodName)) ∈ lw_all := lw_g (lw_at lw_m6 153 rfl) rfl
theorem q1511 : (Jvm.Cond.privateMethod ({ cls := "MendedThings$State", name := "by", desc := "(I)I" } : Jvm.MethodName)) ∈ lw_tbl := lw_at lw_m6 154 rfl
theorem q1512 : (Jvm.Cond.instanceMethod ({ cls := "MendedThings$State", name := "by", desc := "(I)I" } : Jvm.MethodName)) ∈ lw_all := lw_g (lw_at lw_m6 155 rfl) rfl
theorem q1513 : (Jvm.Cond.code ({ cls := "MendedThings$State", name := "by", desc := "(I)I" } : Jvm.MethodName) prog_17_method_14_code (3 : Nat) (Option.some Jvm.ClassFile.FieldType.int)) ∈ lw_all := lw_g (lw_at lw_m6 156 rfl) rfl
theorem q1514 : (Jvm.Cond.methodLink "MendedThings$State" (152 : Nat) ({ cls := "MendedThings$State", name := "takes", desc := "(II)I" } : Jvm.MethodName)) ∈ lw_all := lw_g (lw_at lw_m6 157 rfl) rfl
theorem q1515 : (Jvm.Cond.methodLink "MendedThings$State" (163 : Nat) ({ cls := "MendedThings$State", name := "first", desc := "(I)J" } : Jvm.MethodName)) ∈ lw_all := lw_g (lw_at lw_m6 158 rfl) rfl
theorem q1516 : (Jvm.Cond.privateMethod ({ cls := "MendedThings$State", name := "first", desc := "(I)J" } : Jvm.MethodName)) ∈ lw_tbl := lw_at lw_m6 159 rfl
theorem q1517 : (Jvm.Cond.instanceMethod ({ cls := "MendedThings$State", name := "first", desc := "(I)J" } : Jvm.MethodName)) ∈ lw_all := lw_g (lw_at lw_m6 160 rfl) rfl
theorem q1518 : (Jvm.Cond.code ({ cls := "MendedThings$State", name := "first", desc := "(I)J" } : Jvm.MethodName) prog_17_method_10_code (2 : Nat) (Option.some Jvm.ClassFile.FieldType.long)) ∈ lw_all := lw_g (lw_at lw_m6 161 rfl) rfl
theorem q1519 : (Jvm.Cond.methodLink "MendedThings$State" (184 : Nat) ({ cls := "MendedThings$State", name := "isMended", desc := "(II)V" } : Jvm.MethodName)) ∈ lw_all := lw_g (lw_at lw_m6 162 rfl) rfl
theorem q1520 : (Jvm.Cond.instanceMethod ({ cls := "MendedThings$State", name := "isMended", desc := "(II)V" } : Jvm.MethodName)) ∈ lw_all := lw_g (lw_at lw_m6 163 rfl) rfl
theorem q1521 : (Jvm.Cond.selects "MendedThings$State" ({ cls := "MendedThings$State", name := "isMended", desc := "(II)V" } : Jvm.MethodName) ({ cls := "MendedThings$State", name := "isMended", desc := "(II)V" } : Jvm.MethodName)) ∈ lw_all := lw_g (lw_at lw_m6 164 rfl) rfl
theorem q1522 : (Jvm.Cond.code ({ cls := "MendedThings$State", name := "isMended", desc := "(II)V" } : Jvm.MethodName) prog_17_method_13_code (4 : Nat) (Option.none : Option Jvm.ClassFile.FieldType)) ∈ lw_all := lw_g (lw_at lw_m6 165 rfl) rfl
theorem q1523 : (Jvm.Cond.methodLink "MendedThings$State" (146 : Nat) ({ cls := "MendedThings$State", name := "fine", desc := "(II)I" } : Jvm.MethodName)) ∈ lw_all := lw_g (lw_at lw_m6 166 rfl) rfl
theorem q1524 : (Jvm.Cond.methodLink "MendedThings$State" (187 : Nat) ({ cls := "java/lang/Integer", name := "bitCount", desc := "(I)I" } : Jvm.MethodName)) ∈ lw_all := lw_g (lw_at lw_m6 167 rfl) rfl
theorem q2585 : (Jvm.Cond.castable "MendedThings$State" "java/lang/Object") ∈ lw_tbl := lw_at lw_m11 28 rfl
theorem in_X5 : ∀ w ∈ wsX50, w ∈ lw_all := lw_in wsX50 [435, 437, 439, 441, 443, 445, 447, 449, 451, 453, 455, 457, 459] (by decide +kernel) (by decide +kernel)
