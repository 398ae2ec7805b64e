/-! MendedThings$Reader -/
set_option maxRecDepth 100000
def RX2 : String := "MendedThings$Reader"
def TX2 : u_T := fun k => match k with
  | 0 => ("MendedThings$Reader", "fault", "LMendedThings$Fault;", true)
  | 1 => ("MendedThings$Reader", "size", "I", false)
  | 2 => ("MendedThings$Reader", "at", "I", false)
  | 3 => ("MendedThings$Reader", "from", "I", false)
  | 4 => ("MendedThings$Reader", "open", "I", false)
  | 5 => ("MendedThings$Reader", "context", "I", false)
  | 6 => ("MendedThings$Reader", "to", "LMendedThings$Island;", false)
  | _ => ("MendedThings$Reader", "this$0", "LMendedThings;", true)
def tyX2 : Nat → FieldType := fun k => match k with
  | 0 => .object "MendedThings$Fault"
  | 1 => .int
  | 2 => .int
  | 3 => .int
  | 4 => .int
  | 5 => .int
  | 6 => .object "MendedThings$Island"
  | _ => .object "MendedThings"
abbrev wsX20 : List Cond := u_ws RX2 TX2 8
theorem nmX2 : ∀ a, a < 8 → ∀ b, b < 8 → a ≠ b → (TX2 a).2.1 ≠ (TX2 b).2.1 := by decide +kernel
theorem tyX2_ok : ∀ k, k < 8 → parseFieldDescriptor (TX2 k).2.2.1 = some (tyX2 k) := by decide +kernel
abbrev cX2_init : ByteArray := prog_16_method_1_code
def yX2_init : MethodName := ⟨RX2, "<init>", "(LMendedThings;)V"⟩
def dkwX2_init_0 : List UInt8 := [42, 43, 181, 0, 3, 42, 183, 0, 9, 42, 187, 0, 15, 89, 183, 0, 17, 181, 0, 18, 177]
abbrev dktX2_init_0 : List UInt8 := dkwX2_init_0 ++ []
theorem dksX2_init_0 : cX2_init.data.toList.drop 0 = dktX2_init_0 := by decide +kernel
theorem dX2_init_0 : decode cX2_init 0 = .ok (.aload_n 0, 1) := dk_42 (dk_at dksX2_init_0 0 rfl rfl)
theorem dX2_init_1 : decode cX2_init 1 = .ok (.aload_n 1, 1) := dk_43 (dk_at dksX2_init_0 1 rfl rfl)
theorem dX2_init_2 : decode cX2_init 2 = .ok (.putfield 3, 3) := dk_181 0 3 (dk_at dksX2_init_0 2 rfl rfl)
theorem dX2_init_5 : decode cX2_init 5 = .ok (.aload_n 0, 1) := dk_42 (dk_at dksX2_init_0 5 rfl rfl)
theorem dX2_init_6 : decode cX2_init 6 = .ok (.invokespecial 9, 3) := dk_183 0 9 (dk_at dksX2_init_0 6 rfl rfl)
theorem dX2_init_9 : decode cX2_init 9 = .ok (.aload_n 0, 1) := dk_42 (dk_at dksX2_init_0 9 rfl rfl)
theorem dX2_init_10 : decode cX2_init 10 = .ok (.new 15, 3) := dk_187 0 15 (dk_at dksX2_init_0 10 rfl rfl)
theorem dX2_init_13 : decode cX2_init 13 = .ok (.dup, 1) := dk_89 (dk_at dksX2_init_0 13 rfl rfl)
theorem dX2_init_14 : decode cX2_init 14 = .ok (.invokespecial 17, 3) := dk_183 0 17 (dk_at dksX2_init_0 14 rfl rfl)
theorem dX2_init_17 : decode cX2_init 17 = .ok (.putfield 18, 3) := dk_181 0 18 (dk_at dksX2_init_0 17 rfl rfl)
theorem dX2_init_20 : decode cX2_init 20 = .ok (.return_, 1) := dk_177 (dk_at dksX2_init_0 20 rfl rfl)
abbrev cX2_all : ByteArray := prog_16_method_15_code
def yX2_all : MethodName := ⟨RX2, "all", "(I)LMendedThings$Island;"⟩
def dkwX2_all_4 : List UInt8 := [180, 0, 61, 182, 0, 128, 42, 16, 59, 182, 0, 132, 167, 255, 178, 42, 180, 0, 103, 176]
abbrev dktX2_all_4 : List UInt8 := dkwX2_all_4 ++ []
def dkwX2_all_3 : List UInt8 := [181, 0, 117, 42, 182, 0, 70, 77, 42, 44, 42, 180, 0, 61, 182, 0, 124, 154, 0, 12, 42, 44, 42]
abbrev dktX2_all_3 : List UInt8 := dkwX2_all_3 ++ dktX2_all_4
def dkwX2_all_2 : List UInt8 := [4, 167, 0, 4, 3, 42, 180, 0, 36, 182, 0, 120, 42, 180, 0, 103, 89, 180, 0, 117, 4, 96]
abbrev dktX2_all_2 : List UInt8 := dkwX2_all_2 ++ dktX2_all_3
def dkwX2_all_1 : List UInt8 := [181, 0, 114, 42, 182, 0, 43, 2, 159, 0, 76, 42, 42, 180, 0, 103, 180, 0, 117, 16, 80, 160, 0, 7]
abbrev dktX2_all_1 : List UInt8 := dkwX2_all_1 ++ dktX2_all_2
def dkwX2_all_0 : List UInt8 := [42, 187, 0, 108, 89, 183, 0, 113, 181, 0, 103, 42, 27, 181, 0, 29, 42, 3, 181, 0, 36, 42, 3]
abbrev dktX2_all_0 : List UInt8 := dkwX2_all_0 ++ dktX2_all_1
theorem dksX2_all_0 : cX2_all.data.toList.drop 0 = dktX2_all_0 := by decide +kernel
theorem dksX2_all_1 : cX2_all.data.toList.drop 23 = dktX2_all_1 := dk_seg dksX2_all_0 23 rfl rfl
theorem dksX2_all_2 : cX2_all.data.toList.drop 47 = dktX2_all_2 := dk_seg dksX2_all_1 24 rfl rfl
theorem dksX2_all_3 : cX2_all.data.toList.drop 69 = dktX2_all_3 := dk_seg dksX2_all_2 22 rfl rfl
theorem dksX2_all_4 : cX2_all.data.toList.drop 92 = dktX2_all_4 := dk_seg dksX2_all_3 23 rfl rfl
theorem dX2_all_0 : decode cX2_all 0 = .ok (.aload_n 0, 1) := dk_42 (dk_at dksX2_all_0 0 rfl rfl)
theorem dX2_all_1 : decode cX2_all 1 = .ok (.new 108, 3) := dk_187 0 108 (dk_at dksX2_all_0 1 rfl rfl)
theorem dX2_all_4 : decode cX2_all 4 = .ok (.dup, 1) := dk_89 (dk_at dksX2_all_0 4 rfl rfl)
theorem dX2_all_5 : decode cX2_all 5 = .ok (.invokespecial 113, 3) := dk_183 0 113 (dk_at dksX2_all_0 5 rfl rfl)
theorem dX2_all_8 : decode cX2_all 8 = .ok (.putfield 103, 3) := dk_181 0 103 (dk_at dksX2_all_0 8 rfl rfl)
theorem dX2_all_11 : decode cX2_all 11 = .ok (.aload_n 0, 1) := dk_42 (dk_at dksX2_all_0 11 rfl rfl)
theorem dX2_all_12 : decode cX2_all 12 = .ok (.iload_n 1, 1) := dk_27 (dk_at dksX2_all_0 12 rfl rfl)
theorem dX2_all_13 : decode cX2_all 13 = .ok (.putfield 29, 3) := dk_181 0 29 (dk_at dksX2_all_0 13 rfl rfl)
theorem dX2_all_16 : decode cX2_all 16 = .ok (.aload_n 0, 1) := dk_42 (dk_at dksX2_all_0 16 rfl rfl)
theorem dX2_all_17 : decode cX2_all 17 = .ok (.iconst 0, 1) := dk_3 (dk_at dksX2_all_0 17 rfl rfl)
theorem dX2_all_18 : decode cX2_all 18 = .ok (.putfield 36, 3) := dk_181 0 36 (dk_at dksX2_all_0 18 rfl rfl)
theorem dX2_all_21 : decode cX2_all 21 = .ok (.aload_n 0, 1) := dk_42 (dk_at dksX2_all_0 21 rfl rfl)
theorem dX2_all_22 : decode cX2_all 22 = .ok (.iconst 0, 1) := dk_3 (dk_at dksX2_all_0 22 rfl rfl)
theorem dX2_all_23 : decode cX2_all 23 = .ok (.putfield 114, 3) := dk_181 0 114 (dk_at dksX2_all_1 0 rfl rfl)
theorem dX2_all_26 : decode cX2_all 26 = .ok (.aload_n 0, 1) := dk_42 (dk_at dksX2_all_1 3 rfl rfl)
theorem dX2_all_27 : decode cX2_all 27 = .ok (.invokevirtual 43, 3) := dk_182 0 43 (dk_at dksX2_all_1 4 rfl rfl)
theorem dX2_all_30 : decode cX2_all 30 = .ok (.iconst (-1), 1) := dk_2 (dk_at dksX2_all_1 7 rfl rfl)
theorem dX2_all_31 : decode cX2_all 31 = .ok (.if_icmp .eq 76, 3) := dk_159 0 76 (dk_at dksX2_all_1 8 rfl rfl)
theorem dX2_all_34 : decode cX2_all 34 = .ok (.aload_n 0, 1) := dk_42 (dk_at dksX2_all_1 11 rfl rfl)
theorem dX2_all_35 : decode cX2_all 35 = .ok (.aload_n 0, 1) := dk_42 (dk_at dksX2_all_1 12 rfl rfl)
theorem dX2_all_36 : decode cX2_all 36 = .ok (.getfield 103, 3) := dk_180 0 103 (dk_at dksX2_all_1 13 rfl rfl)
theorem dX2_all_39 : decode cX2_all 39 = .ok (.getfield 117, 3) := dk_180 0 117 (dk_at dksX2_all_1 16 rfl rfl)
theorem dX2_all_42 : decode cX2_all 42 = .ok (.bipush 80, 2) := dk_16 80 (dk_at dksX2_all_1 19 rfl rfl)
theorem dX2_all_44 : decode cX2_all 44 = .ok (.if_icmp .ne 7, 3) := dk_160 0 7 (dk_at dksX2_all_1 21 rfl rfl)
theorem dX2_all_47 : decode cX2_all 47 = .ok (.iconst 1, 1) := dk_4 (dk_at dksX2_all_2 0 rfl rfl)
theorem dX2_all_48 : decode cX2_all 48 = .ok (.goto 4, 3) := dk_167 0 4 (dk_at dksX2_all_2 1 rfl rfl)
theorem dX2_all_51 : decode cX2_all 51 = .ok (.iconst 0, 1) := dk_3 (dk_at dksX2_all_2 4 rfl rfl)
theorem dX2_all_52 : decode cX2_all 52 = .ok (.aload_n 0, 1) := dk_42 (dk_at dksX2_all_2 5 rfl rfl)
theorem dX2_all_53 : decode cX2_all 53 = .ok (.getfield 36, 3) := dk_180 0 36 (dk_at dksX2_all_2 6 rfl rfl)
theorem dX2_all_56 : decode cX2_all 56 = .ok (.invokevirtual 120, 3) := dk_182 0 120 (dk_at dksX2_all_2 9 rfl rfl)
theorem dX2_all_59 : decode cX2_all 59 = .ok (.aload_n 0, 1) := dk_42 (dk_at dksX2_all_2 12 rfl rfl)
theorem dX2_all_60 : decode cX2_all 60 = .ok (.getfield 103, 3) := dk_180 0 103 (dk_at dksX2_all_2 13 rfl rfl)
theorem dX2_all_63 : decode cX2_all 63 = .ok (.dup, 1) := dk_89 (dk_at dksX2_all_2 16 rfl rfl)
theorem dX2_all_64 : decode cX2_all 64 = .ok (.getfield 117, 3) := dk_180 0 117 (dk_at dksX2_all_2 17 rfl rfl)
theorem dX2_all_67 : decode cX2_all 67 = .ok (.iconst 1, 1) := dk_4 (dk_at dksX2_all_2 20 rfl rfl)
theorem dX2_all_68 : decode cX2_all 68 = .ok (.iadd, 1) := dk_96 (dk_at dksX2_all_2 21 rfl rfl)
theorem dX2_all_69 : decode cX2_all 69 = .ok (.putfield 117, 3) := dk_181 0 117 (dk_at dksX2_all_3 0 rfl rfl)
theorem dX2_all_72 : decode cX2_all 72 = .ok (.aload_n 0, 1) := dk_42 (dk_at dksX2_all_3 3 rfl rfl)
theorem dX2_all_73 : decode cX2_all 73 = .ok (.invokevirtual 70, 3) := dk_182 0 70 (dk_at dksX2_all_3 4 rfl rfl)
theorem dX2_all_76 : decode cX2_all 76 = .ok (.astore_n 2, 1) := dk_77 (dk_at dksX2_all_3 7 rfl rfl)
theorem dX2_all_77 : decode cX2_all 77 = .ok (.aload_n 0, 1) := dk_42 (dk_at dksX2_all_3 8 rfl rfl)
theorem dX2_all_78 : decode cX2_all 78 = .ok (.aload_n 2, 1) := dk_44 (dk_at dksX2_all_3 9 rfl rfl)
theorem dX2_all_79 : decode cX2_all 79 = .ok (.aload_n 0, 1) := dk_42 (dk_at dksX2_all_3 10 rfl rfl)
theorem dX2_all_80 : decode cX2_all 80 = .ok (.getfield 61, 3) := dk_180 0 61 (dk_at dksX2_all_3 11 rfl rfl)
theorem dX2_all_83 : decode cX2_all 83 = .ok (.invokevirtual 124, 3) := dk_182 0 124 (dk_at dksX2_all_3 14 rfl rfl)
theorem dX2_all_86 : decode cX2_all 86 = .ok (.ifCond .ne 12, 3) := dk_154 0 12 (dk_at dksX2_all_3 17 rfl rfl)
theorem dX2_all_89 : decode cX2_all 89 = .ok (.aload_n 0, 1) := dk_42 (dk_at dksX2_all_3 20 rfl rfl)
theorem dX2_all_90 : decode cX2_all 90 = .ok (.aload_n 2, 1) := dk_44 (dk_at dksX2_all_3 21 rfl rfl)
theorem dX2_all_91 : decode cX2_all 91 = .ok (.aload_n 0, 1) := dk_42 (dk_at dksX2_all_3 22 rfl rfl)
theorem dX2_all_92 : decode cX2_all 92 = .ok (.getfield 61, 3) := dk_180 0 61 (dk_at dksX2_all_4 0 rfl rfl)
theorem dX2_all_95 : decode cX2_all 95 = .ok (.invokevirtual 128, 3) := dk_182 0 128 (dk_at dksX2_all_4 3 rfl rfl)
theorem dX2_all_98 : decode cX2_all 98 = .ok (.aload_n 0, 1) := dk_42 (dk_at dksX2_all_4 6 rfl rfl)
theorem dX2_all_99 : decode cX2_all 99 = .ok (.bipush 59, 2) := dk_16 59 (dk_at dksX2_all_4 7 rfl rfl)
theorem dX2_all_101 : decode cX2_all 101 = .ok (.invokevirtual 132, 3) := dk_182 0 132 (dk_at dksX2_all_4 9 rfl rfl)
theorem dX2_all_104 : decode cX2_all 104 = .ok (.goto (-78), 3) := dk_167 255 178 (dk_at dksX2_all_4 12 rfl rfl)
theorem dX2_all_107 : decode cX2_all 107 = .ok (.aload_n 0, 1) := dk_42 (dk_at dksX2_all_4 15 rfl rfl)
theorem dX2_all_108 : decode cX2_all 108 = .ok (.getfield 103, 3) := dk_180 0 103 (dk_at dksX2_all_4 16 rfl rfl)
theorem dX2_all_111 : decode cX2_all 111 = .ok (.areturn, 1) := dk_176 (dk_at dksX2_all_4 19 rfl rfl)
abbrev cX2_here : ByteArray := prog_16_method_4_code
def yX2_here : MethodName := ⟨RX2, "here", "()I"⟩
def dkwX2_here_2 : List UInt8 := [172]
abbrev dktX2_here_2 : List UInt8 := dkwX2_here_2 ++ []
def dkwX2_here_1 : List UInt8 := [160, 0, 16, 42, 89, 180, 0, 36, 4, 96, 181, 0, 36, 167, 255, 220, 42, 42, 180, 0, 36, 182, 0, 39]
abbrev dktX2_here_1 : List UInt8 := dkwX2_here_1 ++ dktX2_here_2
def dkwX2_here_0 : List UInt8 := [42, 42, 180, 0, 36, 182, 0, 39, 16, 32, 159, 0, 16, 42, 42, 180, 0, 36, 182, 0, 39, 16, 10]
abbrev dktX2_here_0 : List UInt8 := dkwX2_here_0 ++ dktX2_here_1
theorem dksX2_here_0 : cX2_here.data.toList.drop 0 = dktX2_here_0 := by decide +kernel
theorem dksX2_here_1 : cX2_here.data.toList.drop 23 = dktX2_here_1 := dk_seg dksX2_here_0 23 rfl rfl
theorem dksX2_here_2 : cX2_here.data.toList.drop 47 = dktX2_here_2 := dk_seg dksX2_here_1 24 rfl rfl
theorem dX2_here_0 : decode cX2_here 0 = .ok (.aload_n 0, 1) := dk_42 (dk_at dksX2_here_0 0 rfl rfl)
theorem dX2_here_1 : decode cX2_here 1 = .ok (.aload_n 0, 1) := dk_42 (dk_at dksX2_here_0 1 rfl rfl)
theorem dX2_here_2 : decode cX2_here 2 = .ok (.getfield 36, 3) := dk_180 0 36 (dk_at dksX2_here_0 2 rfl rfl)
theorem dX2_here_5 : decode cX2_here 5 = .ok (.invokevirtual 39, 3) := dk_182 0 39 (dk_at dksX2_here_0 5 rfl rfl)
theorem dX2_here_8 : decode cX2_here 8 = .ok (.bipush 32, 2) := dk_16 32 (dk_at dksX2_here_0 8 rfl rfl)
theorem dX2_here_10 : decode cX2_here 10 = .ok (.if_icmp .eq 16, 3) := dk_159 0 16 (dk_at dksX2_here_0 10 rfl rfl)
theorem dX2_here_13 : decode cX2_here 13 = .ok (.aload_n 0, 1) := dk_42 (dk_at dksX2_here_0 13 rfl rfl)
theorem dX2_here_14 : decode cX2_here 14 = .ok (.aload_n 0, 1) := dk_42 (dk_at dksX2_here_0 14 rfl rfl)
theorem dX2_here_15 : decode cX2_here 15 = .ok (.getfield 36, 3) := dk_180 0 36 (dk_at dksX2_here_0 15 rfl rfl)
theorem dX2_here_18 : decode cX2_here 18 = .ok (.invokevirtual 39, 3) := dk_182 0 39 (dk_at dksX2_here_0 18 rfl rfl)
theorem dX2_here_21 : decode cX2_here 21 = .ok (.bipush 10, 2) := dk_16 10 (dk_at dksX2_here_0 21 rfl rfl)
theorem dX2_here_23 : decode cX2_here 23 = .ok (.if_icmp .ne 16, 3) := dk_160 0 16 (dk_at dksX2_here_1 0 rfl rfl)
theorem dX2_here_26 : decode cX2_here 26 = .ok (.aload_n 0, 1) := dk_42 (dk_at dksX2_here_1 3 rfl rfl)
theorem dX2_here_27 : decode cX2_here 27 = .ok (.dup, 1) := dk_89 (dk_at dksX2_here_1 4 rfl rfl)
theorem dX2_here_28 : decode cX2_here 28 = .ok (.getfield 36, 3) := dk_180 0 36 (dk_at dksX2_here_1 5 rfl rfl)
theorem dX2_here_31 : decode cX2_here 31 = .ok (.iconst 1, 1) := dk_4 (dk_at dksX2_here_1 8 rfl rfl)
theorem dX2_here_32 : decode cX2_here 32 = .ok (.iadd, 1) := dk_96 (dk_at dksX2_here_1 9 rfl rfl)
theorem dX2_here_33 : decode cX2_here 33 = .ok (.putfield 36, 3) := dk_181 0 36 (dk_at dksX2_here_1 10 rfl rfl)
theorem dX2_here_36 : decode cX2_here 36 = .ok (.goto (-36), 3) := dk_167 255 220 (dk_at dksX2_here_1 13 rfl rfl)
theorem dX2_here_39 : decode cX2_here 39 = .ok (.aload_n 0, 1) := dk_42 (dk_at dksX2_here_1 16 rfl rfl)
theorem dX2_here_40 : decode cX2_here 40 = .ok (.aload_n 0, 1) := dk_42 (dk_at dksX2_here_1 17 rfl rfl)
theorem dX2_here_41 : decode cX2_here 41 = .ok (.getfield 36, 3) := dk_180 0 36 (dk_at dksX2_here_1 18 rfl rfl)
theorem dX2_here_44 : decode cX2_here 44 = .ok (.invokevirtual 39, 3) := dk_182 0 39 (dk_at dksX2_here_1 21 rfl rfl)
theorem dX2_here_47 : decode cX2_here 47 = .ok (.ireturn, 1) := dk_172 (dk_at dksX2_here_2 0 rfl rfl)
abbrev cX2_byteAt : ByteArray := prog_16_method_3_code
def yX2_byteAt : MethodName := ⟨RX2, "byteAt", "(I)I"⟩
def dkwX2_byteAt_1 : List UInt8 := [126, 167, 0, 4, 2, 172]
abbrev dktX2_byteAt_1 : List UInt8 := dkwX2_byteAt_1 ++ []
def dkwX2_byteAt_0 : List UInt8 := [27, 155, 0, 27, 27, 42, 180, 0, 29, 162, 0, 19, 42, 180, 0, 3, 180, 0, 32, 27, 51, 17, 0, 255]
abbrev dktX2_byteAt_0 : List UInt8 := dkwX2_byteAt_0 ++ dktX2_byteAt_1
theorem dksX2_byteAt_0 : cX2_byteAt.data.toList.drop 0 = dktX2_byteAt_0 := by decide +kernel
theorem dksX2_byteAt_1 : cX2_byteAt.data.toList.drop 24 = dktX2_byteAt_1 := dk_seg dksX2_byteAt_0 24 rfl rfl
theorem dX2_byteAt_0 : decode cX2_byteAt 0 = .ok (.iload_n 1, 1) := dk_27 (dk_at dksX2_byteAt_0 0 rfl rfl)
theorem dX2_byteAt_1 : decode cX2_byteAt 1 = .ok (.ifCond .lt 27, 3) := dk_155 0 27 (dk_at dksX2_byteAt_0 1 rfl rfl)
theorem dX2_byteAt_4 : decode cX2_byteAt 4 = .ok (.iload_n 1, 1) := dk_27 (dk_at dksX2_byteAt_0 4 rfl rfl)
theorem dX2_byteAt_5 : decode cX2_byteAt 5 = .ok (.aload_n 0, 1) := dk_42 (dk_at dksX2_byteAt_0 5 rfl rfl)
theorem dX2_byteAt_6 : decode cX2_byteAt 6 = .ok (.getfield 29, 3) := dk_180 0 29 (dk_at dksX2_byteAt_0 6 rfl rfl)
theorem dX2_byteAt_9 : decode cX2_byteAt 9 = .ok (.if_icmp .ge 19, 3) := dk_162 0 19 (dk_at dksX2_byteAt_0 9 rfl rfl)
theorem dX2_byteAt_12 : decode cX2_byteAt 12 = .ok (.aload_n 0, 1) := dk_42 (dk_at dksX2_byteAt_0 12 rfl rfl)
theorem dX2_byteAt_13 : decode cX2_byteAt 13 = .ok (.getfield 3, 3) := dk_180 0 3 (dk_at dksX2_byteAt_0 13 rfl rfl)
theorem dX2_byteAt_16 : decode cX2_byteAt 16 = .ok (.getfield 32, 3) := dk_180 0 32 (dk_at dksX2_byteAt_0 16 rfl rfl)
theorem dX2_byteAt_19 : decode cX2_byteAt 19 = .ok (.iload_n 1, 1) := dk_27 (dk_at dksX2_byteAt_0 19 rfl rfl)
theorem dX2_byteAt_20 : decode cX2_byteAt 20 = .ok (.baload, 1) := dk_51 (dk_at dksX2_byteAt_0 20 rfl rfl)
theorem dX2_byteAt_21 : decode cX2_byteAt 21 = .ok (.sipush 255, 3) := dk_17 0 255 (dk_at dksX2_byteAt_0 21 rfl rfl)
theorem dX2_byteAt_24 : decode cX2_byteAt 24 = .ok (.iand, 1) := dk_126 (dk_at dksX2_byteAt_1 0 rfl rfl)
theorem dX2_byteAt_25 : decode cX2_byteAt 25 = .ok (.goto 4, 3) := dk_167 0 4 (dk_at dksX2_byteAt_1 1 rfl rfl)
theorem dX2_byteAt_28 : decode cX2_byteAt 28 = .ok (.iconst (-1), 1) := dk_2 (dk_at dksX2_byteAt_1 4 rfl rfl)
theorem dX2_byteAt_29 : decode cX2_byteAt 29 = .ok (.ireturn, 1) := dk_172 (dk_at dksX2_byteAt_1 5 rfl rfl)
abbrev cX2_most : ByteArray := prog_16_method_14_code
def yX2_most : MethodName := ⟨RX2, "most", "(ZI)V"⟩
def dkwX2_most_0 : List UInt8 := [27, 153, 0, 10, 42, 8, 28, 182, 0, 47, 191, 177]
abbrev dktX2_most_0 : List UInt8 := dkwX2_most_0 ++ []
theorem dksX2_most_0 : cX2_most.data.toList.drop 0 = dktX2_most_0 := by decide +kernel
theorem dX2_most_0 : decode cX2_most 0 = .ok (.iload_n 1, 1) := dk_27 (dk_at dksX2_most_0 0 rfl rfl)
theorem dX2_most_1 : decode cX2_most 1 = .ok (.ifCond .eq 10, 3) := dk_153 0 10 (dk_at dksX2_most_0 1 rfl rfl)
theorem dX2_most_4 : decode cX2_most 4 = .ok (.aload_n 0, 1) := dk_42 (dk_at dksX2_most_0 4 rfl rfl)
theorem dX2_most_5 : decode cX2_most 5 = .ok (.iconst 5, 1) := dk_8 (dk_at dksX2_most_0 5 rfl rfl)
theorem dX2_most_6 : decode cX2_most 6 = .ok (.iload_n 2, 1) := dk_28 (dk_at dksX2_most_0 6 rfl rfl)
theorem dX2_most_7 : decode cX2_most 7 = .ok (.invokevirtual 47, 3) := dk_182 0 47 (dk_at dksX2_most_0 7 rfl rfl)
theorem dX2_most_10 : decode cX2_most 10 = .ok (.athrow, 1) := dk_191 (dk_at dksX2_most_0 10 rfl rfl)
theorem dX2_most_11 : decode cX2_most 11 = .ok (.return_, 1) := dk_177 (dk_at dksX2_most_0 11 rfl rfl)
abbrev cX2_wrong : ByteArray := prog_16_method_2_code
def yX2_wrong : MethodName := ⟨RX2, "wrong", "(II)LMendedThings$Fault;"⟩
def dkwX2_wrong_0 : List UInt8 := [42, 180, 0, 18, 27, 181, 0, 22, 42, 180, 0, 18, 28, 181, 0, 26, 42, 180, 0, 18, 176]
abbrev dktX2_wrong_0 : List UInt8 := dkwX2_wrong_0 ++ []
theorem dksX2_wrong_0 : cX2_wrong.data.toList.drop 0 = dktX2_wrong_0 := by decide +kernel
theorem dX2_wrong_0 : decode cX2_wrong 0 = .ok (.aload_n 0, 1) := dk_42 (dk_at dksX2_wrong_0 0 rfl rfl)
theorem dX2_wrong_1 : decode cX2_wrong 1 = .ok (.getfield 18, 3) := dk_180 0 18 (dk_at dksX2_wrong_0 1 rfl rfl)
theorem dX2_wrong_4 : decode cX2_wrong 4 = .ok (.iload_n 1, 1) := dk_27 (dk_at dksX2_wrong_0 4 rfl rfl)
theorem dX2_wrong_5 : decode cX2_wrong 5 = .ok (.putfield 22, 3) := dk_181 0 22 (dk_at dksX2_wrong_0 5 rfl rfl)
theorem dX2_wrong_8 : decode cX2_wrong 8 = .ok (.aload_n 0, 1) := dk_42 (dk_at dksX2_wrong_0 8 rfl rfl)
theorem dX2_wrong_9 : decode cX2_wrong 9 = .ok (.getfield 18, 3) := dk_180 0 18 (dk_at dksX2_wrong_0 9 rfl rfl)
theorem dX2_wrong_12 : decode cX2_wrong 12 = .ok (.iload_n 2, 1) := dk_28 (dk_at dksX2_wrong_0 12 rfl rfl)
theorem dX2_wrong_13 : decode cX2_wrong 13 = .ok (.putfield 26, 3) := dk_181 0 26 (dk_at dksX2_wrong_0 13 rfl rfl)
theorem dX2_wrong_16 : decode cX2_wrong 16 = .ok (.aload_n 0, 1) := dk_42 (dk_at dksX2_wrong_0 16 rfl rfl)
theorem dX2_wrong_17 : decode cX2_wrong 17 = .ok (.getfield 18, 3) := dk_180 0 18 (dk_at dksX2_wrong_0 17 rfl rfl)
theorem dX2_wrong_20 : decode cX2_wrong 20 = .ok (.areturn, 1) := dk_176 (dk_at dksX2_wrong_0 20 rfl rfl)
abbrev cX2_word : ByteArray := prog_16_method_7_code
def yX2_word : MethodName := ⟨RX2, "word", "()Ljava/lang/String;"⟩
def dkwX2_word_4 : List UInt8 := [180, 0, 32, 28, 51, 146, 85, 132, 2, 1, 167, 255, 227, 43, 184, 0, 64, 176]
abbrev dktX2_word_4 : List UInt8 := dkwX2_word_4 ++ []
def dkwX2_word_3 : List UInt8 := [180, 0, 61, 61, 28, 42, 180, 0, 36, 162, 0, 27, 43, 28, 42, 180, 0, 61, 100, 42, 180, 0, 3]
abbrev dktX2_word_3 : List UInt8 := dkwX2_word_3 ++ dktX2_word_4
def dkwX2_word_2 : List UInt8 := [180, 0, 36, 4, 96, 181, 0, 36, 167, 255, 232, 42, 180, 0, 36, 42, 180, 0, 61, 100, 188, 5, 76, 42]
abbrev dktX2_word_2 : List UInt8 := dkwX2_word_2 ++ dktX2_word_3
def dkwX2_word_1 : List UInt8 := [42, 42, 180, 0, 36, 181, 0, 61, 42, 42, 180, 0, 36, 182, 0, 39, 184, 0, 51, 153, 0, 16, 42, 89]
abbrev dktX2_word_1 : List UInt8 := dkwX2_word_1 ++ dktX2_word_2
def dkwX2_word_0 : List UInt8 := [42, 182, 0, 43, 184, 0, 51, 154, 0, 13, 42, 4, 42, 180, 0, 36, 182, 0, 47, 191, 42, 182, 0, 58]
abbrev dktX2_word_0 : List UInt8 := dkwX2_word_0 ++ dktX2_word_1
theorem dksX2_word_0 : cX2_word.data.toList.drop 0 = dktX2_word_0 := by decide +kernel
theorem dksX2_word_1 : cX2_word.data.toList.drop 24 = dktX2_word_1 := dk_seg dksX2_word_0 24 rfl rfl
theorem dksX2_word_2 : cX2_word.data.toList.drop 48 = dktX2_word_2 := dk_seg dksX2_word_1 24 rfl rfl
theorem dksX2_word_3 : cX2_word.data.toList.drop 72 = dktX2_word_3 := dk_seg dksX2_word_2 24 rfl rfl
theorem dksX2_word_4 : cX2_word.data.toList.drop 95 = dktX2_word_4 := dk_seg dksX2_word_3 23 rfl rfl
theorem dX2_word_0 : decode cX2_word 0 = .ok (.aload_n 0, 1) := dk_42 (dk_at dksX2_word_0 0 rfl rfl)
theorem dX2_word_1 : decode cX2_word 1 = .ok (.invokevirtual 43, 3) := dk_182 0 43 (dk_at dksX2_word_0 1 rfl rfl)
theorem dX2_word_4 : decode cX2_word 4 = .ok (.invokestatic 51, 3) := dk_184 0 51 (dk_at dksX2_word_0 4 rfl rfl)
theorem dX2_word_7 : decode cX2_word 7 = .ok (.ifCond .ne 13, 3) := dk_154 0 13 (dk_at dksX2_word_0 7 rfl rfl)
theorem dX2_word_10 : decode cX2_word 10 = .ok (.aload_n 0, 1) := dk_42 (dk_at dksX2_word_0 10 rfl rfl)
theorem dX2_word_11 : decode cX2_word 11 = .ok (.iconst 1, 1) := dk_4 (dk_at dksX2_word_0 11 rfl rfl)
theorem dX2_word_12 : decode cX2_word 12 = .ok (.aload_n 0, 1) := dk_42 (dk_at dksX2_word_0 12 rfl rfl)
theorem dX2_word_13 : decode cX2_word 13 = .ok (.getfield 36, 3) := dk_180 0 36 (dk_at dksX2_word_0 13 rfl rfl)
theorem dX2_word_16 : decode cX2_word 16 = .ok (.invokevirtual 47, 3) := dk_182 0 47 (dk_at dksX2_word_0 16 rfl rfl)
theorem dX2_word_19 : decode cX2_word 19 = .ok (.athrow, 1) := dk_191 (dk_at dksX2_word_0 19 rfl rfl)
theorem dX2_word_20 : decode cX2_word 20 = .ok (.aload_n 0, 1) := dk_42 (dk_at dksX2_word_0 20 rfl rfl)
theorem dX2_word_21 : decode cX2_word 21 = .ok (.invokevirtual 58, 3) := dk_182 0 58 (dk_at dksX2_word_0 21 rfl rfl)
theorem dX2_word_24 : decode cX2_word 24 = .ok (.aload_n 0, 1) := dk_42 (dk_at dksX2_word_1 0 rfl rfl)
theorem dX2_word_25 : decode cX2_word 25 = .ok (.aload_n 0, 1) := dk_42 (dk_at dksX2_word_1 1 rfl rfl)
theorem dX2_word_26 : decode cX2_word 26 = .ok (.getfield 36, 3) := dk_180 0 36 (dk_at dksX2_word_1 2 rfl rfl)
theorem dX2_word_29 : decode cX2_word 29 = .ok (.putfield 61, 3) := dk_181 0 61 (dk_at dksX2_word_1 5 rfl rfl)
theorem dX2_word_32 : decode cX2_word 32 = .ok (.aload_n 0, 1) := dk_42 (dk_at dksX2_word_1 8 rfl rfl)
theorem dX2_word_33 : decode cX2_word 33 = .ok (.aload_n 0, 1) := dk_42 (dk_at dksX2_word_1 9 rfl rfl)
theorem dX2_word_34 : decode cX2_word 34 = .ok (.getfield 36, 3) := dk_180 0 36 (dk_at dksX2_word_1 10 rfl rfl)
theorem dX2_word_37 : decode cX2_word 37 = .ok (.invokevirtual 39, 3) := dk_182 0 39 (dk_at dksX2_word_1 13 rfl rfl)
theorem dX2_word_40 : decode cX2_word 40 = .ok (.invokestatic 51, 3) := dk_184 0 51 (dk_at dksX2_word_1 16 rfl rfl)
theorem dX2_word_43 : decode cX2_word 43 = .ok (.ifCond .eq 16, 3) := dk_153 0 16 (dk_at dksX2_word_1 19 rfl rfl)
theorem dX2_word_46 : decode cX2_word 46 = .ok (.aload_n 0, 1) := dk_42 (dk_at dksX2_word_1 22 rfl rfl)
theorem dX2_word_47 : decode cX2_word 47 = .ok (.dup, 1) := dk_89 (dk_at dksX2_word_1 23 rfl rfl)
theorem dX2_word_48 : decode cX2_word 48 = .ok (.getfield 36, 3) := dk_180 0 36 (dk_at dksX2_word_2 0 rfl rfl)
theorem dX2_word_51 : decode cX2_word 51 = .ok (.iconst 1, 1) := dk_4 (dk_at dksX2_word_2 3 rfl rfl)
theorem dX2_word_52 : decode cX2_word 52 = .ok (.iadd, 1) := dk_96 (dk_at dksX2_word_2 4 rfl rfl)
theorem dX2_word_53 : decode cX2_word 53 = .ok (.putfield 36, 3) := dk_181 0 36 (dk_at dksX2_word_2 5 rfl rfl)
theorem dX2_word_56 : decode cX2_word 56 = .ok (.goto (-24), 3) := dk_167 255 232 (dk_at dksX2_word_2 8 rfl rfl)
theorem dX2_word_59 : decode cX2_word 59 = .ok (.aload_n 0, 1) := dk_42 (dk_at dksX2_word_2 11 rfl rfl)
theorem dX2_word_60 : decode cX2_word 60 = .ok (.getfield 36, 3) := dk_180 0 36 (dk_at dksX2_word_2 12 rfl rfl)
theorem dX2_word_63 : decode cX2_word 63 = .ok (.aload_n 0, 1) := dk_42 (dk_at dksX2_word_2 15 rfl rfl)
theorem dX2_word_64 : decode cX2_word 64 = .ok (.getfield 61, 3) := dk_180 0 61 (dk_at dksX2_word_2 16 rfl rfl)
theorem dX2_word_67 : decode cX2_word 67 = .ok (.isub, 1) := dk_100 (dk_at dksX2_word_2 19 rfl rfl)
theorem dX2_word_68 : decode cX2_word 68 = .ok (.newarray .char, 2) := dk_188_5 (dk_at dksX2_word_2 20 rfl rfl)
theorem dX2_word_70 : decode cX2_word 70 = .ok (.astore_n 1, 1) := dk_76 (dk_at dksX2_word_2 22 rfl rfl)
theorem dX2_word_71 : decode cX2_word 71 = .ok (.aload_n 0, 1) := dk_42 (dk_at dksX2_word_2 23 rfl rfl)
theorem dX2_word_72 : decode cX2_word 72 = .ok (.getfield 61, 3) := dk_180 0 61 (dk_at dksX2_word_3 0 rfl rfl)
theorem dX2_word_75 : decode cX2_word 75 = .ok (.istore_n 2, 1) := dk_61 (dk_at dksX2_word_3 3 rfl rfl)
theorem dX2_word_76 : decode cX2_word 76 = .ok (.iload_n 2, 1) := dk_28 (dk_at dksX2_word_3 4 rfl rfl)
theorem dX2_word_77 : decode cX2_word 77 = .ok (.aload_n 0, 1) := dk_42 (dk_at dksX2_word_3 5 rfl rfl)
theorem dX2_word_78 : decode cX2_word 78 = .ok (.getfield 36, 3) := dk_180 0 36 (dk_at dksX2_word_3 6 rfl rfl)
theorem dX2_word_81 : decode cX2_word 81 = .ok (.if_icmp .ge 27, 3) := dk_162 0 27 (dk_at dksX2_word_3 9 rfl rfl)
theorem dX2_word_84 : decode cX2_word 84 = .ok (.aload_n 1, 1) := dk_43 (dk_at dksX2_word_3 12 rfl rfl)
theorem dX2_word_85 : decode cX2_word 85 = .ok (.iload_n 2, 1) := dk_28 (dk_at dksX2_word_3 13 rfl rfl)
theorem dX2_word_86 : decode cX2_word 86 = .ok (.aload_n 0, 1) := dk_42 (dk_at dksX2_word_3 14 rfl rfl)
theorem dX2_word_87 : decode cX2_word 87 = .ok (.getfield 61, 3) := dk_180 0 61 (dk_at dksX2_word_3 15 rfl rfl)
theorem dX2_word_90 : decode cX2_word 90 = .ok (.isub, 1) := dk_100 (dk_at dksX2_word_3 18 rfl rfl)
theorem dX2_word_91 : decode cX2_word 91 = .ok (.aload_n 0, 1) := dk_42 (dk_at dksX2_word_3 19 rfl rfl)
theorem dX2_word_92 : decode cX2_word 92 = .ok (.getfield 3, 3) := dk_180 0 3 (dk_at dksX2_word_3 20 rfl rfl)
theorem dX2_word_95 : decode cX2_word 95 = .ok (.getfield 32, 3) := dk_180 0 32 (dk_at dksX2_word_4 0 rfl rfl)
theorem dX2_word_98 : decode cX2_word 98 = .ok (.iload_n 2, 1) := dk_28 (dk_at dksX2_word_4 3 rfl rfl)
theorem dX2_word_99 : decode cX2_word 99 = .ok (.baload, 1) := dk_51 (dk_at dksX2_word_4 4 rfl rfl)
theorem dX2_word_100 : decode cX2_word 100 = .ok (.i2c, 1) := dk_146 (dk_at dksX2_word_4 5 rfl rfl)
theorem dX2_word_101 : decode cX2_word 101 = .ok (.castore, 1) := dk_85 (dk_at dksX2_word_4 6 rfl rfl)
theorem dX2_word_102 : decode cX2_word 102 = .ok (.iinc 2 1, 3) := dk_132 2 1 (dk_at dksX2_word_4 7 rfl rfl)
theorem dX2_word_105 : decode cX2_word 105 = .ok (.goto (-29), 3) := dk_167 255 227 (dk_at dksX2_word_4 10 rfl rfl)
theorem dX2_word_108 : decode cX2_word 108 = .ok (.aload_n 1, 1) := dk_43 (dk_at dksX2_word_4 13 rfl rfl)
theorem dX2_word_109 : decode cX2_word 109 = .ok (.invokestatic 64, 3) := dk_184 0 64 (dk_at dksX2_word_4 14 rfl rfl)
theorem dX2_word_112 : decode cX2_word 112 = .ok (.areturn, 1) := dk_176 (dk_at dksX2_word_4 17 rfl rfl)
abbrev cX2_parted : ByteArray := prog_16_method_6_code
def yX2_parted : MethodName := ⟨RX2, "parted", "()V"⟩
def dkwX2_parted_1 : List UInt8 := [182, 0, 39, 184, 0, 55, 153, 0, 13, 42, 4, 42, 180, 0, 36, 182, 0, 47, 191, 177]
abbrev dktX2_parted_1 : List UInt8 := dkwX2_parted_1 ++ []
def dkwX2_parted_0 : List UInt8 := [42, 42, 180, 0, 36, 4, 100, 182, 0, 39, 184, 0, 51, 154, 0, 19, 42, 42, 180, 0, 36, 4, 100]
abbrev dktX2_parted_0 : List UInt8 := dkwX2_parted_0 ++ dktX2_parted_1
theorem dksX2_parted_0 : cX2_parted.data.toList.drop 0 = dktX2_parted_0 := by decide +kernel
theorem dksX2_parted_1 : cX2_parted.data.toList.drop 23 = dktX2_parted_1 := dk_seg dksX2_parted_0 23 rfl rfl
theorem dX2_parted_0 : decode cX2_parted 0 = .ok (.aload_n 0, 1) := dk_42 (dk_at dksX2_parted_0 0 rfl rfl)
theorem dX2_parted_1 : decode cX2_parted 1 = .ok (.aload_n 0, 1) := dk_42 (dk_at dksX2_parted_0 1 rfl rfl)
theorem dX2_parted_2 : decode cX2_parted 2 = .ok (.getfield 36, 3) := dk_180 0 36 (dk_at dksX2_parted_0 2 rfl rfl)
theorem dX2_parted_5 : decode cX2_parted 5 = .ok (.iconst 1, 1) := dk_4 (dk_at dksX2_parted_0 5 rfl rfl)
theorem dX2_parted_6 : decode cX2_parted 6 = .ok (.isub, 1) := dk_100 (dk_at dksX2_parted_0 6 rfl rfl)
theorem dX2_parted_7 : decode cX2_parted 7 = .ok (.invokevirtual 39, 3) := dk_182 0 39 (dk_at dksX2_parted_0 7 rfl rfl)
theorem dX2_parted_10 : decode cX2_parted 10 = .ok (.invokestatic 51, 3) := dk_184 0 51 (dk_at dksX2_parted_0 10 rfl rfl)
theorem dX2_parted_13 : decode cX2_parted 13 = .ok (.ifCond .ne 19, 3) := dk_154 0 19 (dk_at dksX2_parted_0 13 rfl rfl)
theorem dX2_parted_16 : decode cX2_parted 16 = .ok (.aload_n 0, 1) := dk_42 (dk_at dksX2_parted_0 16 rfl rfl)
theorem dX2_parted_17 : decode cX2_parted 17 = .ok (.aload_n 0, 1) := dk_42 (dk_at dksX2_parted_0 17 rfl rfl)
theorem dX2_parted_18 : decode cX2_parted 18 = .ok (.getfield 36, 3) := dk_180 0 36 (dk_at dksX2_parted_0 18 rfl rfl)
theorem dX2_parted_21 : decode cX2_parted 21 = .ok (.iconst 1, 1) := dk_4 (dk_at dksX2_parted_0 21 rfl rfl)
theorem dX2_parted_22 : decode cX2_parted 22 = .ok (.isub, 1) := dk_100 (dk_at dksX2_parted_0 22 rfl rfl)
theorem dX2_parted_23 : decode cX2_parted 23 = .ok (.invokevirtual 39, 3) := dk_182 0 39 (dk_at dksX2_parted_1 0 rfl rfl)
theorem dX2_parted_26 : decode cX2_parted 26 = .ok (.invokestatic 55, 3) := dk_184 0 55 (dk_at dksX2_parted_1 3 rfl rfl)
theorem dX2_parted_29 : decode cX2_parted 29 = .ok (.ifCond .eq 13, 3) := dk_153 0 13 (dk_at dksX2_parted_1 6 rfl rfl)
theorem dX2_parted_32 : decode cX2_parted 32 = .ok (.aload_n 0, 1) := dk_42 (dk_at dksX2_parted_1 9 rfl rfl)
theorem dX2_parted_33 : decode cX2_parted 33 = .ok (.iconst 1, 1) := dk_4 (dk_at dksX2_parted_1 10 rfl rfl)
theorem dX2_parted_34 : decode cX2_parted 34 = .ok (.aload_n 0, 1) := dk_42 (dk_at dksX2_parted_1 11 rfl rfl)
theorem dX2_parted_35 : decode cX2_parted 35 = .ok (.getfield 36, 3) := dk_180 0 36 (dk_at dksX2_parted_1 12 rfl rfl)
theorem dX2_parted_38 : decode cX2_parted 38 = .ok (.invokevirtual 47, 3) := dk_182 0 47 (dk_at dksX2_parted_1 15 rfl rfl)
theorem dX2_parted_41 : decode cX2_parted 41 = .ok (.athrow, 1) := dk_191 (dk_at dksX2_parted_1 18 rfl rfl)
theorem dX2_parted_42 : decode cX2_parted 42 = .ok (.return_, 1) := dk_177 (dk_at dksX2_parted_1 19 rfl rfl)
abbrev cX2_named : ByteArray := prog_16_method_16_code
def yX2_named : MethodName := ⟨RX2, "named", "(Ljava/lang/String;I)Z"⟩
def dkwX2_named_15 : List UInt8 := [183, 0, 198, 185, 0, 170, 2, 0, 87, 4, 172, 3, 172]
abbrev dktX2_named_15 : List UInt8 := dkwX2_named_15 ++ []
def dkwX2_named_14 : List UInt8 := [42, 16, 127, 181, 0, 189, 42, 180, 0, 103, 180, 0, 185, 187, 0, 192, 89, 25, 10, 42, 182, 0, 194]
abbrev dktX2_named_14 : List UInt8 := dkwX2_named_14 ++ dktX2_named_15
def dkwX2_named_13 : List UInt8 := [160, 0, 7, 4, 167, 0, 4, 3, 28, 182, 0, 120, 42, 182, 0, 153, 58, 10, 42, 18, 188, 182, 0, 93]
abbrev dktX2_named_13 : List UInt8 := dkwX2_named_13 ++ dktX2_named_14
def dkwX2_named_12 : List UInt8 := [185, 0, 170, 2, 0, 87, 4, 172, 42, 42, 180, 0, 103, 180, 0, 185, 185, 0, 149, 1, 0, 8]
abbrev dktX2_named_12 : List UInt8 := dkwX2_named_12 ++ dktX2_named_13
def dkwX2_named_11 : List UInt8 := [187, 0, 178, 89, 25, 8, 21, 9, 42, 18, 180, 4, 16, 24, 182, 0, 158, 183, 0, 182]
abbrev dktX2_named_11 : List UInt8 := dkwX2_named_11 ++ dktX2_named_12
def dkwX2_named_10 : List UInt8 := [42, 182, 0, 153, 58, 8, 42, 18, 176, 3, 16, 9, 182, 0, 158, 54, 9, 42, 180, 0, 103, 180, 0, 173]
abbrev dktX2_named_10 : List UInt8 := dkwX2_named_10 ++ dktX2_named_11
def dkwX2_named_9 : List UInt8 := [180, 0, 103, 180, 0, 173, 185, 0, 149, 1, 0, 7, 160, 0, 7, 4, 167, 0, 4, 3, 28, 182, 0, 120]
abbrev dktX2_named_9 : List UInt8 := dkwX2_named_9 ++ dktX2_named_10
def dkwX2_named_8 : List UInt8 := [42, 18, 165, 3, 16, 9, 182, 0, 158, 183, 0, 167, 185, 0, 170, 2, 0, 87, 4, 172, 42, 42]
abbrev dktX2_named_8 : List UInt8 := dkwX2_named_8 ++ dktX2_named_9
def dkwX2_named_7 : List UInt8 := [16, 99, 182, 0, 158, 54, 7, 42, 180, 0, 103, 180, 0, 145, 187, 0, 163, 89, 25, 5, 21, 6, 21, 7]
abbrev dktX2_named_7 : List UInt8 := dkwX2_named_7 ++ dktX2_named_8
def dkwX2_named_6 : List UInt8 := [182, 0, 120, 42, 182, 0, 153, 58, 5, 42, 18, 156, 3, 16, 99, 182, 0, 158, 54, 6, 42, 18, 161, 3]
abbrev dktX2_named_6 : List UInt8 := dkwX2_named_6 ++ dktX2_named_7
def dkwX2_named_5 : List UInt8 := [42, 42, 180, 0, 103, 180, 0, 145, 185, 0, 149, 1, 0, 16, 8, 160, 0, 7, 4, 167, 0, 4, 3, 28]
abbrev dktX2_named_5 : List UInt8 := dkwX2_named_5 ++ dktX2_named_6
def dkwX2_named_4 : List UInt8 := [170, 0, 0, 0, 0, 0, 1, 14, 0, 0, 0, 0, 0, 0, 0, 2, 0, 0, 0, 28, 0, 0, 0, 120, 0, 0, 0, 198]
abbrev dktX2_named_4 : List UInt8 := dkwX2_named_4 ++ dktX2_named_5
def dkwX2_named_3 : List UInt8 := [4, 54, 4, 167, 0, 15, 45, 18, 143, 182, 0, 74, 153, 0, 6, 5, 54, 4, 21, 4]
abbrev dktX2_named_3 : List UInt8 := dkwX2_named_3 ++ dktX2_named_4
def dkwX2_named_2 : List UInt8 := [45, 18, 139, 182, 0, 74, 153, 0, 36, 3, 54, 4, 167, 0, 30, 45, 18, 141, 182, 0, 74, 153, 0, 21]
abbrev dktX2_named_2 : List UInt8 := dkwX2_named_2 ++ dktX2_named_3
def dkwX2_named_1 : List UInt8 := [171, 0, 0, 0, 0, 0, 77, 0, 0, 0, 3, 191, 195, 6, 123, 0, 0, 0, 50, 6, 147, 132, 238, 0, 0, 0, 35, 6, 152, 15, 22, 0, 0, 0, 65]
abbrev dktX2_named_1 : List UInt8 := dkwX2_named_1 ++ dktX2_named_2
def dkwX2_named_0 : List UInt8 := [43, 78, 2, 54, 4, 45, 182, 0, 136]
abbrev dktX2_named_0 : List UInt8 := dkwX2_named_0 ++ dktX2_named_1
theorem dksX2_named_0 : cX2_named.data.toList.drop 0 = dktX2_named_0 := by decide +kernel
theorem dksX2_named_1 : cX2_named.data.toList.drop 9 = dktX2_named_1 := dk_seg dksX2_named_0 9 rfl rfl
theorem dksX2_named_2 : cX2_named.data.toList.drop 44 = dktX2_named_2 := dk_seg dksX2_named_1 35 rfl rfl
theorem dksX2_named_3 : cX2_named.data.toList.drop 68 = dktX2_named_3 := dk_seg dksX2_named_2 24 rfl rfl
theorem dksX2_named_4 : cX2_named.data.toList.drop 88 = dktX2_named_4 := dk_seg dksX2_named_3 20 rfl rfl
theorem dksX2_named_5 : cX2_named.data.toList.drop 116 = dktX2_named_5 := dk_seg dksX2_named_4 28 rfl rfl
theorem dksX2_named_6 : cX2_named.data.toList.drop 140 = dktX2_named_6 := dk_seg dksX2_named_5 24 rfl rfl
theorem dksX2_named_7 : cX2_named.data.toList.drop 164 = dktX2_named_7 := dk_seg dksX2_named_6 24 rfl rfl
theorem dksX2_named_8 : cX2_named.data.toList.drop 188 = dktX2_named_8 := dk_seg dksX2_named_7 24 rfl rfl
theorem dksX2_named_9 : cX2_named.data.toList.drop 210 = dktX2_named_9 := dk_seg dksX2_named_8 22 rfl rfl
theorem dksX2_named_10 : cX2_named.data.toList.drop 234 = dktX2_named_10 := dk_seg dksX2_named_9 24 rfl rfl
theorem dksX2_named_11 : cX2_named.data.toList.drop 258 = dktX2_named_11 := dk_seg dksX2_named_10 24 rfl rfl
theorem dksX2_named_12 : cX2_named.data.toList.drop 278 = dktX2_named_12 := dk_seg dksX2_named_11 20 rfl rfl
theorem dksX2_named_13 : cX2_named.data.toList.drop 300 = dktX2_named_13 := dk_seg dksX2_named_12 22 rfl rfl
theorem dksX2_named_14 : cX2_named.data.toList.drop 324 = dktX2_named_14 := dk_seg dksX2_named_13 24 rfl rfl
theorem dksX2_named_15 : cX2_named.data.toList.drop 347 = dktX2_named_15 := dk_seg dksX2_named_14 23 rfl rfl
theorem dX2_named_0 : decode cX2_named 0 = .ok (.aload_n 1, 1) := dk_43 (dk_at dksX2_named_0 0 rfl rfl)
theorem dX2_named_1 : decode cX2_named 1 = .ok (.astore_n 3, 1) := dk_78 (dk_at dksX2_named_0 1 rfl rfl)
theorem dX2_named_2 : decode cX2_named 2 = .ok (.iconst (-1), 1) := dk_2 (dk_at dksX2_named_0 2 rfl rfl)
theorem dX2_named_3 : decode cX2_named 3 = .ok (.istore 4, 2) := dk_54 4 (dk_at dksX2_named_0 3 rfl rfl)
theorem dX2_named_5 : decode cX2_named 5 = .ok (.aload_n 3, 1) := dk_45 (dk_at dksX2_named_0 5 rfl rfl)
theorem dX2_named_6 : decode cX2_named 6 = .ok (.invokevirtual 136, 3) := dk_182 0 136 (dk_at dksX2_named_0 6 rfl rfl)
theorem dX2_named_9 : decode cX2_named 9 = .ok (.lookupswitch 77 #[(-1077737861, 50), (110331118, 35), (110628630, 65)], 35) := by decide +kernel
theorem dX2_named_44 : decode cX2_named 44 = .ok (.aload_n 3, 1) := dk_45 (dk_at dksX2_named_2 0 rfl rfl)
theorem dX2_named_45 : decode cX2_named 45 = .ok (.ldc 139, 2) := dk_18 139 (dk_at dksX2_named_2 1 rfl rfl)
theorem dX2_named_47 : decode cX2_named 47 = .ok (.invokevirtual 74, 3) := dk_182 0 74 (dk_at dksX2_named_2 3 rfl rfl)
theorem dX2_named_50 : decode cX2_named 50 = .ok (.ifCond .eq 36, 3) := dk_153 0 36 (dk_at dksX2_named_2 6 rfl rfl)
theorem dX2_named_53 : decode cX2_named 53 = .ok (.iconst 0, 1) := dk_3 (dk_at dksX2_named_2 9 rfl rfl)
theorem dX2_named_54 : decode cX2_named 54 = .ok (.istore 4, 2) := dk_54 4 (dk_at dksX2_named_2 10 rfl rfl)
theorem dX2_named_56 : decode cX2_named 56 = .ok (.goto 30, 3) := dk_167 0 30 (dk_at dksX2_named_2 12 rfl rfl)
theorem dX2_named_59 : decode cX2_named 59 = .ok (.aload_n 3, 1) := dk_45 (dk_at dksX2_named_2 15 rfl rfl)
theorem dX2_named_60 : decode cX2_named 60 = .ok (.ldc 141, 2) := dk_18 141 (dk_at dksX2_named_2 16 rfl rfl)
theorem dX2_named_62 : decode cX2_named 62 = .ok (.invokevirtual 74, 3) := dk_182 0 74 (dk_at dksX2_named_2 18 rfl rfl)
theorem dX2_named_65 : decode cX2_named 65 = .ok (.ifCond .eq 21, 3) := dk_153 0 21 (dk_at dksX2_named_2 21 rfl rfl)
theorem dX2_named_68 : decode cX2_named 68 = .ok (.iconst 1, 1) := dk_4 (dk_at dksX2_named_3 0 rfl rfl)
theorem dX2_named_69 : decode cX2_named 69 = .ok (.istore 4, 2) := dk_54 4 (dk_at dksX2_named_3 1 rfl rfl)
theorem dX2_named_71 : decode cX2_named 71 = .ok (.goto 15, 3) := dk_167 0 15 (dk_at dksX2_named_3 3 rfl rfl)
theorem dX2_named_74 : decode cX2_named 74 = .ok (.aload_n 3, 1) := dk_45 (dk_at dksX2_named_3 6 rfl rfl)
theorem dX2_named_75 : decode cX2_named 75 = .ok (.ldc 143, 2) := dk_18 143 (dk_at dksX2_named_3 7 rfl rfl)
theorem dX2_named_77 : decode cX2_named 77 = .ok (.invokevirtual 74, 3) := dk_182 0 74 (dk_at dksX2_named_3 9 rfl rfl)
theorem dX2_named_80 : decode cX2_named 80 = .ok (.ifCond .eq 6, 3) := dk_153 0 6 (dk_at dksX2_named_3 12 rfl rfl)
theorem dX2_named_83 : decode cX2_named 83 = .ok (.iconst 2, 1) := dk_5 (dk_at dksX2_named_3 15 rfl rfl)
theorem dX2_named_84 : decode cX2_named 84 = .ok (.istore 4, 2) := dk_54 4 (dk_at dksX2_named_3 16 rfl rfl)
theorem dX2_named_86 : decode cX2_named 86 = .ok (.iload 4, 2) := dk_21 4 (dk_at dksX2_named_3 18 rfl rfl)
theorem dX2_named_88 : decode cX2_named 88 = .ok (.tableswitch 270 0 2 #[28, 120, 198], 28) := by decide +kernel
theorem dX2_named_116 : decode cX2_named 116 = .ok (.aload_n 0, 1) := dk_42 (dk_at dksX2_named_5 0 rfl rfl)
theorem dX2_named_117 : decode cX2_named 117 = .ok (.aload_n 0, 1) := dk_42 (dk_at dksX2_named_5 1 rfl rfl)
theorem dX2_named_118 : decode cX2_named 118 = .ok (.getfield 103, 3) := dk_180 0 103 (dk_at dksX2_named_5 2 rfl rfl)
theorem dX2_named_121 : decode cX2_named 121 = .ok (.getfield 145, 3) := dk_180 0 145 (dk_at dksX2_named_5 5 rfl rfl)
theorem dX2_named_124 : decode cX2_named 124 = .ok (.invokeinterface 149 1, 5) := by decide +kernel
theorem dX2_named_129 : decode cX2_named 129 = .ok (.bipush 8, 2) := dk_16 8 (dk_at dksX2_named_5 13 rfl rfl)
theorem dX2_named_131 : decode cX2_named 131 = .ok (.if_icmp .ne 7, 3) := dk_160 0 7 (dk_at dksX2_named_5 15 rfl rfl)
theorem dX2_named_134 : decode cX2_named 134 = .ok (.iconst 1, 1) := dk_4 (dk_at dksX2_named_5 18 rfl rfl)
theorem dX2_named_135 : decode cX2_named 135 = .ok (.goto 4, 3) := dk_167 0 4 (dk_at dksX2_named_5 19 rfl rfl)
theorem dX2_named_138 : decode cX2_named 138 = .ok (.iconst 0, 1) := dk_3 (dk_at dksX2_named_5 22 rfl rfl)
theorem dX2_named_139 : decode cX2_named 139 = .ok (.iload_n 2, 1) := dk_28 (dk_at dksX2_named_5 23 rfl rfl)
theorem dX2_named_140 : decode cX2_named 140 = .ok (.invokevirtual 120, 3) := dk_182 0 120 (dk_at dksX2_named_6 0 rfl rfl)
theorem dX2_named_143 : decode cX2_named 143 = .ok (.aload_n 0, 1) := dk_42 (dk_at dksX2_named_6 3 rfl rfl)
theorem dX2_named_144 : decode cX2_named 144 = .ok (.invokevirtual 153, 3) := dk_182 0 153 (dk_at dksX2_named_6 4 rfl rfl)
theorem dX2_named_147 : decode cX2_named 147 = .ok (.astore 5, 2) := dk_58 5 (dk_at dksX2_named_6 7 rfl rfl)
theorem dX2_named_149 : decode cX2_named 149 = .ok (.aload_n 0, 1) := dk_42 (dk_at dksX2_named_6 9 rfl rfl)
theorem dX2_named_150 : decode cX2_named 150 = .ok (.ldc 156, 2) := dk_18 156 (dk_at dksX2_named_6 10 rfl rfl)
theorem dX2_named_152 : decode cX2_named 152 = .ok (.iconst 0, 1) := dk_3 (dk_at dksX2_named_6 12 rfl rfl)
theorem dX2_named_153 : decode cX2_named 153 = .ok (.bipush 99, 2) := dk_16 99 (dk_at dksX2_named_6 13 rfl rfl)
theorem dX2_named_155 : decode cX2_named 155 = .ok (.invokevirtual 158, 3) := dk_182 0 158 (dk_at dksX2_named_6 15 rfl rfl)
theorem dX2_named_158 : decode cX2_named 158 = .ok (.istore 6, 2) := dk_54 6 (dk_at dksX2_named_6 18 rfl rfl)
theorem dX2_named_160 : decode cX2_named 160 = .ok (.aload_n 0, 1) := dk_42 (dk_at dksX2_named_6 20 rfl rfl)
theorem dX2_named_161 : decode cX2_named 161 = .ok (.ldc 161, 2) := dk_18 161 (dk_at dksX2_named_6 21 rfl rfl)
theorem dX2_named_163 : decode cX2_named 163 = .ok (.iconst 0, 1) := dk_3 (dk_at dksX2_named_6 23 rfl rfl)
theorem dX2_named_164 : decode cX2_named 164 = .ok (.bipush 99, 2) := dk_16 99 (dk_at dksX2_named_7 0 rfl rfl)
theorem dX2_named_166 : decode cX2_named 166 = .ok (.invokevirtual 158, 3) := dk_182 0 158 (dk_at dksX2_named_7 2 rfl rfl)
theorem dX2_named_169 : decode cX2_named 169 = .ok (.istore 7, 2) := dk_54 7 (dk_at dksX2_named_7 5 rfl rfl)
theorem dX2_named_171 : decode cX2_named 171 = .ok (.aload_n 0, 1) := dk_42 (dk_at dksX2_named_7 7 rfl rfl)
theorem dX2_named_172 : decode cX2_named 172 = .ok (.getfield 103, 3) := dk_180 0 103 (dk_at dksX2_named_7 8 rfl rfl)
theorem dX2_named_175 : decode cX2_named 175 = .ok (.getfield 145, 3) := dk_180 0 145 (dk_at dksX2_named_7 11 rfl rfl)
theorem dX2_named_178 : decode cX2_named 178 = .ok (.new 163, 3) := dk_187 0 163 (dk_at dksX2_named_7 14 rfl rfl)
theorem dX2_named_181 : decode cX2_named 181 = .ok (.dup, 1) := dk_89 (dk_at dksX2_named_7 17 rfl rfl)
theorem dX2_named_182 : decode cX2_named 182 = .ok (.aload 5, 2) := dk_25 5 (dk_at dksX2_named_7 18 rfl rfl)
theorem dX2_named_184 : decode cX2_named 184 = .ok (.iload 6, 2) := dk_21 6 (dk_at dksX2_named_7 20 rfl rfl)
theorem dX2_named_186 : decode cX2_named 186 = .ok (.iload 7, 2) := dk_21 7 (dk_at dksX2_named_7 22 rfl rfl)
theorem dX2_named_188 : decode cX2_named 188 = .ok (.aload_n 0, 1) := dk_42 (dk_at dksX2_named_8 0 rfl rfl)
theorem dX2_named_189 : decode cX2_named 189 = .ok (.ldc 165, 2) := dk_18 165 (dk_at dksX2_named_8 1 rfl rfl)
theorem dX2_named_191 : decode cX2_named 191 = .ok (.iconst 0, 1) := dk_3 (dk_at dksX2_named_8 3 rfl rfl)
theorem dX2_named_192 : decode cX2_named 192 = .ok (.bipush 9, 2) := dk_16 9 (dk_at dksX2_named_8 4 rfl rfl)
theorem dX2_named_194 : decode cX2_named 194 = .ok (.invokevirtual 158, 3) := dk_182 0 158 (dk_at dksX2_named_8 6 rfl rfl)
theorem dX2_named_197 : decode cX2_named 197 = .ok (.invokespecial 167, 3) := dk_183 0 167 (dk_at dksX2_named_8 9 rfl rfl)
theorem dX2_named_200 : decode cX2_named 200 = .ok (.invokeinterface 170 2, 5) := by decide +kernel
theorem dX2_named_205 : decode cX2_named 205 = .ok (.pop, 1) := dk_87 (dk_at dksX2_named_8 17 rfl rfl)
theorem dX2_named_206 : decode cX2_named 206 = .ok (.iconst 1, 1) := dk_4 (dk_at dksX2_named_8 18 rfl rfl)
theorem dX2_named_207 : decode cX2_named 207 = .ok (.ireturn, 1) := dk_172 (dk_at dksX2_named_8 19 rfl rfl)
theorem dX2_named_208 : decode cX2_named 208 = .ok (.aload_n 0, 1) := dk_42 (dk_at dksX2_named_8 20 rfl rfl)
theorem dX2_named_209 : decode cX2_named 209 = .ok (.aload_n 0, 1) := dk_42 (dk_at dksX2_named_8 21 rfl rfl)
theorem dX2_named_210 : decode cX2_named 210 = .ok (.getfield 103, 3) := dk_180 0 103 (dk_at dksX2_named_9 0 rfl rfl)
theorem dX2_named_213 : decode cX2_named 213 = .ok (.getfield 173, 3) := dk_180 0 173 (dk_at dksX2_named_9 3 rfl rfl)
theorem dX2_named_216 : decode cX2_named 216 = .ok (.invokeinterface 149 1, 5) := by decide +kernel
theorem dX2_named_221 : decode cX2_named 221 = .ok (.iconst 4, 1) := dk_7 (dk_at dksX2_named_9 11 rfl rfl)
theorem dX2_named_222 : decode cX2_named 222 = .ok (.if_icmp .ne 7, 3) := dk_160 0 7 (dk_at dksX2_named_9 12 rfl rfl)
theorem dX2_named_225 : decode cX2_named 225 = .ok (.iconst 1, 1) := dk_4 (dk_at dksX2_named_9 15 rfl rfl)
theorem dX2_named_226 : decode cX2_named 226 = .ok (.goto 4, 3) := dk_167 0 4 (dk_at dksX2_named_9 16 rfl rfl)
theorem dX2_named_229 : decode cX2_named 229 = .ok (.iconst 0, 1) := dk_3 (dk_at dksX2_named_9 19 rfl rfl)
theorem dX2_named_230 : decode cX2_named 230 = .ok (.iload_n 2, 1) := dk_28 (dk_at dksX2_named_9 20 rfl rfl)
theorem dX2_named_231 : decode cX2_named 231 = .ok (.invokevirtual 120, 3) := dk_182 0 120 (dk_at dksX2_named_9 21 rfl rfl)
theorem dX2_named_234 : decode cX2_named 234 = .ok (.aload_n 0, 1) := dk_42 (dk_at dksX2_named_10 0 rfl rfl)
theorem dX2_named_235 : decode cX2_named 235 = .ok (.invokevirtual 153, 3) := dk_182 0 153 (dk_at dksX2_named_10 1 rfl rfl)
theorem dX2_named_238 : decode cX2_named 238 = .ok (.astore 8, 2) := dk_58 8 (dk_at dksX2_named_10 4 rfl rfl)
theorem dX2_named_240 : decode cX2_named 240 = .ok (.aload_n 0, 1) := dk_42 (dk_at dksX2_named_10 6 rfl rfl)
theorem dX2_named_241 : decode cX2_named 241 = .ok (.ldc 176, 2) := dk_18 176 (dk_at dksX2_named_10 7 rfl rfl)
theorem dX2_named_243 : decode cX2_named 243 = .ok (.iconst 0, 1) := dk_3 (dk_at dksX2_named_10 9 rfl rfl)
theorem dX2_named_244 : decode cX2_named 244 = .ok (.bipush 9, 2) := dk_16 9 (dk_at dksX2_named_10 10 rfl rfl)
theorem dX2_named_246 : decode cX2_named 246 = .ok (.invokevirtual 158, 3) := dk_182 0 158 (dk_at dksX2_named_10 12 rfl rfl)
theorem dX2_named_249 : decode cX2_named 249 = .ok (.istore 9, 2) := dk_54 9 (dk_at dksX2_named_10 15 rfl rfl)
theorem dX2_named_251 : decode cX2_named 251 = .ok (.aload_n 0, 1) := dk_42 (dk_at dksX2_named_10 17 rfl rfl)
theorem dX2_named_252 : decode cX2_named 252 = .ok (.getfield 103, 3) := dk_180 0 103 (dk_at dksX2_named_10 18 rfl rfl)
theorem dX2_named_255 : decode cX2_named 255 = .ok (.getfield 173, 3) := dk_180 0 173 (dk_at dksX2_named_10 21 rfl rfl)
theorem dX2_named_258 : decode cX2_named 258 = .ok (.new 178, 3) := dk_187 0 178 (dk_at dksX2_named_11 0 rfl rfl)
theorem dX2_named_261 : decode cX2_named 261 = .ok (.dup, 1) := dk_89 (dk_at dksX2_named_11 3 rfl rfl)
theorem dX2_named_262 : decode cX2_named 262 = .ok (.aload 8, 2) := dk_25 8 (dk_at dksX2_named_11 4 rfl rfl)
theorem dX2_named_264 : decode cX2_named 264 = .ok (.iload 9, 2) := dk_21 9 (dk_at dksX2_named_11 6 rfl rfl)
theorem dX2_named_266 : decode cX2_named 266 = .ok (.aload_n 0, 1) := dk_42 (dk_at dksX2_named_11 8 rfl rfl)
theorem dX2_named_267 : decode cX2_named 267 = .ok (.ldc 180, 2) := dk_18 180 (dk_at dksX2_named_11 9 rfl rfl)
theorem dX2_named_269 : decode cX2_named 269 = .ok (.iconst 1, 1) := dk_4 (dk_at dksX2_named_11 11 rfl rfl)
theorem dX2_named_270 : decode cX2_named 270 = .ok (.bipush 24, 2) := dk_16 24 (dk_at dksX2_named_11 12 rfl rfl)
theorem dX2_named_272 : decode cX2_named 272 = .ok (.invokevirtual 158, 3) := dk_182 0 158 (dk_at dksX2_named_11 14 rfl rfl)
theorem dX2_named_275 : decode cX2_named 275 = .ok (.invokespecial 182, 3) := dk_183 0 182 (dk_at dksX2_named_11 17 rfl rfl)
theorem dX2_named_278 : decode cX2_named 278 = .ok (.invokeinterface 170 2, 5) := by decide +kernel
theorem dX2_named_283 : decode cX2_named 283 = .ok (.pop, 1) := dk_87 (dk_at dksX2_named_12 5 rfl rfl)
theorem dX2_named_284 : decode cX2_named 284 = .ok (.iconst 1, 1) := dk_4 (dk_at dksX2_named_12 6 rfl rfl)
theorem dX2_named_285 : decode cX2_named 285 = .ok (.ireturn, 1) := dk_172 (dk_at dksX2_named_12 7 rfl rfl)
theorem dX2_named_286 : decode cX2_named 286 = .ok (.aload_n 0, 1) := dk_42 (dk_at dksX2_named_12 8 rfl rfl)
theorem dX2_named_287 : decode cX2_named 287 = .ok (.aload_n 0, 1) := dk_42 (dk_at dksX2_named_12 9 rfl rfl)
theorem dX2_named_288 : decode cX2_named 288 = .ok (.getfield 103, 3) := dk_180 0 103 (dk_at dksX2_named_12 10 rfl rfl)
theorem dX2_named_291 : decode cX2_named 291 = .ok (.getfield 185, 3) := dk_180 0 185 (dk_at dksX2_named_12 13 rfl rfl)
theorem dX2_named_294 : decode cX2_named 294 = .ok (.invokeinterface 149 1, 5) := by decide +kernel
theorem dX2_named_299 : decode cX2_named 299 = .ok (.iconst 5, 1) := dk_8 (dk_at dksX2_named_12 21 rfl rfl)
theorem dX2_named_300 : decode cX2_named 300 = .ok (.if_icmp .ne 7, 3) := dk_160 0 7 (dk_at dksX2_named_13 0 rfl rfl)
theorem dX2_named_303 : decode cX2_named 303 = .ok (.iconst 1, 1) := dk_4 (dk_at dksX2_named_13 3 rfl rfl)
theorem dX2_named_304 : decode cX2_named 304 = .ok (.goto 4, 3) := dk_167 0 4 (dk_at dksX2_named_13 4 rfl rfl)
theorem dX2_named_307 : decode cX2_named 307 = .ok (.iconst 0, 1) := dk_3 (dk_at dksX2_named_13 7 rfl rfl)
theorem dX2_named_308 : decode cX2_named 308 = .ok (.iload_n 2, 1) := dk_28 (dk_at dksX2_named_13 8 rfl rfl)
theorem dX2_named_309 : decode cX2_named 309 = .ok (.invokevirtual 120, 3) := dk_182 0 120 (dk_at dksX2_named_13 9 rfl rfl)
theorem dX2_named_312 : decode cX2_named 312 = .ok (.aload_n 0, 1) := dk_42 (dk_at dksX2_named_13 12 rfl rfl)
theorem dX2_named_313 : decode cX2_named 313 = .ok (.invokevirtual 153, 3) := dk_182 0 153 (dk_at dksX2_named_13 13 rfl rfl)
theorem dX2_named_316 : decode cX2_named 316 = .ok (.astore 10, 2) := dk_58 10 (dk_at dksX2_named_13 16 rfl rfl)
theorem dX2_named_318 : decode cX2_named 318 = .ok (.aload_n 0, 1) := dk_42 (dk_at dksX2_named_13 18 rfl rfl)
theorem dX2_named_319 : decode cX2_named 319 = .ok (.ldc 188, 2) := dk_18 188 (dk_at dksX2_named_13 19 rfl rfl)
theorem dX2_named_321 : decode cX2_named 321 = .ok (.invokevirtual 93, 3) := dk_182 0 93 (dk_at dksX2_named_13 21 rfl rfl)
theorem dX2_named_324 : decode cX2_named 324 = .ok (.aload_n 0, 1) := dk_42 (dk_at dksX2_named_14 0 rfl rfl)
theorem dX2_named_325 : decode cX2_named 325 = .ok (.bipush 127, 2) := dk_16 127 (dk_at dksX2_named_14 1 rfl rfl)
theorem dX2_named_327 : decode cX2_named 327 = .ok (.putfield 189, 3) := dk_181 0 189 (dk_at dksX2_named_14 3 rfl rfl)
theorem dX2_named_330 : decode cX2_named 330 = .ok (.aload_n 0, 1) := dk_42 (dk_at dksX2_named_14 6 rfl rfl)
theorem dX2_named_331 : decode cX2_named 331 = .ok (.getfield 103, 3) := dk_180 0 103 (dk_at dksX2_named_14 7 rfl rfl)
theorem dX2_named_334 : decode cX2_named 334 = .ok (.getfield 185, 3) := dk_180 0 185 (dk_at dksX2_named_14 10 rfl rfl)
theorem dX2_named_337 : decode cX2_named 337 = .ok (.new 192, 3) := dk_187 0 192 (dk_at dksX2_named_14 13 rfl rfl)
theorem dX2_named_340 : decode cX2_named 340 = .ok (.dup, 1) := dk_89 (dk_at dksX2_named_14 16 rfl rfl)
theorem dX2_named_341 : decode cX2_named 341 = .ok (.aload 10, 2) := dk_25 10 (dk_at dksX2_named_14 17 rfl rfl)
theorem dX2_named_343 : decode cX2_named 343 = .ok (.aload_n 0, 1) := dk_42 (dk_at dksX2_named_14 19 rfl rfl)
theorem dX2_named_344 : decode cX2_named 344 = .ok (.invokevirtual 194, 3) := dk_182 0 194 (dk_at dksX2_named_14 20 rfl rfl)
theorem dX2_named_347 : decode cX2_named 347 = .ok (.invokespecial 198, 3) := dk_183 0 198 (dk_at dksX2_named_15 0 rfl rfl)
theorem dX2_named_350 : decode cX2_named 350 = .ok (.invokeinterface 170 2, 5) := by decide +kernel
theorem dX2_named_355 : decode cX2_named 355 = .ok (.pop, 1) := dk_87 (dk_at dksX2_named_15 8 rfl rfl)
theorem dX2_named_356 : decode cX2_named 356 = .ok (.iconst 1, 1) := dk_4 (dk_at dksX2_named_15 9 rfl rfl)
theorem dX2_named_357 : decode cX2_named 357 = .ok (.ireturn, 1) := dk_172 (dk_at dksX2_named_15 10 rfl rfl)
theorem dX2_named_358 : decode cX2_named 358 = .ok (.iconst 0, 1) := dk_3 (dk_at dksX2_named_15 11 rfl rfl)
theorem dX2_named_359 : decode cX2_named 359 = .ok (.ireturn, 1) := dk_172 (dk_at dksX2_named_15 12 rfl rfl)
abbrev cX2_fresh : ByteArray := prog_16_method_13_code
def yX2_fresh : MethodName := ⟨RX2, "fresh", "()Ljava/lang/String;"⟩
def dkwX2_fresh_1 : List UInt8 := [182, 0, 47, 191, 43, 176]
abbrev dktX2_fresh_1 : List UInt8 := dkwX2_fresh_1 ++ []
def dkwX2_fresh_0 : List UInt8 := [42, 182, 0, 100, 76, 42, 180, 0, 103, 43, 182, 0, 107, 153, 0, 13, 42, 6, 42, 180, 0, 61]
abbrev dktX2_fresh_0 : List UInt8 := dkwX2_fresh_0 ++ dktX2_fresh_1
theorem dksX2_fresh_0 : cX2_fresh.data.toList.drop 0 = dktX2_fresh_0 := by decide +kernel
theorem dksX2_fresh_1 : cX2_fresh.data.toList.drop 22 = dktX2_fresh_1 := dk_seg dksX2_fresh_0 22 rfl rfl
theorem dX2_fresh_0 : decode cX2_fresh 0 = .ok (.aload_n 0, 1) := dk_42 (dk_at dksX2_fresh_0 0 rfl rfl)
theorem dX2_fresh_1 : decode cX2_fresh 1 = .ok (.invokevirtual 100, 3) := dk_182 0 100 (dk_at dksX2_fresh_0 1 rfl rfl)
theorem dX2_fresh_4 : decode cX2_fresh 4 = .ok (.astore_n 1, 1) := dk_76 (dk_at dksX2_fresh_0 4 rfl rfl)
theorem dX2_fresh_5 : decode cX2_fresh 5 = .ok (.aload_n 0, 1) := dk_42 (dk_at dksX2_fresh_0 5 rfl rfl)
theorem dX2_fresh_6 : decode cX2_fresh 6 = .ok (.getfield 103, 3) := dk_180 0 103 (dk_at dksX2_fresh_0 6 rfl rfl)
theorem dX2_fresh_9 : decode cX2_fresh 9 = .ok (.aload_n 1, 1) := dk_43 (dk_at dksX2_fresh_0 9 rfl rfl)
theorem dX2_fresh_10 : decode cX2_fresh 10 = .ok (.invokevirtual 107, 3) := dk_182 0 107 (dk_at dksX2_fresh_0 10 rfl rfl)
theorem dX2_fresh_13 : decode cX2_fresh 13 = .ok (.ifCond .eq 13, 3) := dk_153 0 13 (dk_at dksX2_fresh_0 13 rfl rfl)
theorem dX2_fresh_16 : decode cX2_fresh 16 = .ok (.aload_n 0, 1) := dk_42 (dk_at dksX2_fresh_0 16 rfl rfl)
theorem dX2_fresh_17 : decode cX2_fresh 17 = .ok (.iconst 3, 1) := dk_6 (dk_at dksX2_fresh_0 17 rfl rfl)
theorem dX2_fresh_18 : decode cX2_fresh 18 = .ok (.aload_n 0, 1) := dk_42 (dk_at dksX2_fresh_0 18 rfl rfl)
theorem dX2_fresh_19 : decode cX2_fresh 19 = .ok (.getfield 61, 3) := dk_180 0 61 (dk_at dksX2_fresh_0 19 rfl rfl)
theorem dX2_fresh_22 : decode cX2_fresh 22 = .ok (.invokevirtual 47, 3) := dk_182 0 47 (dk_at dksX2_fresh_1 0 rfl rfl)
theorem dX2_fresh_25 : decode cX2_fresh 25 = .ok (.athrow, 1) := dk_191 (dk_at dksX2_fresh_1 3 rfl rfl)
theorem dX2_fresh_26 : decode cX2_fresh 26 = .ok (.aload_n 1, 1) := dk_43 (dk_at dksX2_fresh_1 4 rfl rfl)
theorem dX2_fresh_27 : decode cX2_fresh 27 = .ok (.areturn, 1) := dk_176 (dk_at dksX2_fresh_1 5 rfl rfl)
abbrev cX2_name : ByteArray := prog_16_method_10_code
def yX2_name : MethodName := ⟨RX2, "name", "()Ljava/lang/String;"⟩
def dkwX2_name_2 : List UInt8 := [182, 0, 47, 191, 43, 176]
abbrev dktX2_name_2 : List UInt8 := dkwX2_name_2 ++ []
def dkwX2_name_1 : List UInt8 := [182, 0, 47, 191, 43, 182, 0, 86, 16, 6, 164, 0, 16, 42, 4, 42, 180, 0, 61, 16, 6, 96]
abbrev dktX2_name_1 : List UInt8 := dkwX2_name_1 ++ dktX2_name_2
def dkwX2_name_0 : List UInt8 := [42, 182, 0, 70, 76, 43, 178, 0, 78, 184, 0, 82, 2, 159, 0, 13, 42, 4, 42, 180, 0, 61]
abbrev dktX2_name_0 : List UInt8 := dkwX2_name_0 ++ dktX2_name_1
theorem dksX2_name_0 : cX2_name.data.toList.drop 0 = dktX2_name_0 := by decide +kernel
theorem dksX2_name_1 : cX2_name.data.toList.drop 22 = dktX2_name_1 := dk_seg dksX2_name_0 22 rfl rfl
theorem dksX2_name_2 : cX2_name.data.toList.drop 44 = dktX2_name_2 := dk_seg dksX2_name_1 22 rfl rfl
theorem dX2_name_0 : decode cX2_name 0 = .ok (.aload_n 0, 1) := dk_42 (dk_at dksX2_name_0 0 rfl rfl)
theorem dX2_name_1 : decode cX2_name 1 = .ok (.invokevirtual 70, 3) := dk_182 0 70 (dk_at dksX2_name_0 1 rfl rfl)
theorem dX2_name_4 : decode cX2_name 4 = .ok (.astore_n 1, 1) := dk_76 (dk_at dksX2_name_0 4 rfl rfl)
theorem dX2_name_5 : decode cX2_name 5 = .ok (.aload_n 1, 1) := dk_43 (dk_at dksX2_name_0 5 rfl rfl)
theorem dX2_name_6 : decode cX2_name 6 = .ok (.getstatic 78, 3) := dk_178 0 78 (dk_at dksX2_name_0 6 rfl rfl)
theorem dX2_name_9 : decode cX2_name 9 = .ok (.invokestatic 82, 3) := dk_184 0 82 (dk_at dksX2_name_0 9 rfl rfl)
theorem dX2_name_12 : decode cX2_name 12 = .ok (.iconst (-1), 1) := dk_2 (dk_at dksX2_name_0 12 rfl rfl)
theorem dX2_name_13 : decode cX2_name 13 = .ok (.if_icmp .eq 13, 3) := dk_159 0 13 (dk_at dksX2_name_0 13 rfl rfl)
theorem dX2_name_16 : decode cX2_name 16 = .ok (.aload_n 0, 1) := dk_42 (dk_at dksX2_name_0 16 rfl rfl)
theorem dX2_name_17 : decode cX2_name 17 = .ok (.iconst 1, 1) := dk_4 (dk_at dksX2_name_0 17 rfl rfl)
theorem dX2_name_18 : decode cX2_name 18 = .ok (.aload_n 0, 1) := dk_42 (dk_at dksX2_name_0 18 rfl rfl)
theorem dX2_name_19 : decode cX2_name 19 = .ok (.getfield 61, 3) := dk_180 0 61 (dk_at dksX2_name_0 19 rfl rfl)
theorem dX2_name_22 : decode cX2_name 22 = .ok (.invokevirtual 47, 3) := dk_182 0 47 (dk_at dksX2_name_1 0 rfl rfl)
theorem dX2_name_25 : decode cX2_name 25 = .ok (.athrow, 1) := dk_191 (dk_at dksX2_name_1 3 rfl rfl)
theorem dX2_name_26 : decode cX2_name 26 = .ok (.aload_n 1, 1) := dk_43 (dk_at dksX2_name_1 4 rfl rfl)
theorem dX2_name_27 : decode cX2_name 27 = .ok (.invokevirtual 86, 3) := dk_182 0 86 (dk_at dksX2_name_1 5 rfl rfl)
theorem dX2_name_30 : decode cX2_name 30 = .ok (.bipush 6, 2) := dk_16 6 (dk_at dksX2_name_1 8 rfl rfl)
theorem dX2_name_32 : decode cX2_name 32 = .ok (.if_icmp .le 16, 3) := dk_164 0 16 (dk_at dksX2_name_1 10 rfl rfl)
theorem dX2_name_35 : decode cX2_name 35 = .ok (.aload_n 0, 1) := dk_42 (dk_at dksX2_name_1 13 rfl rfl)
theorem dX2_name_36 : decode cX2_name 36 = .ok (.iconst 1, 1) := dk_4 (dk_at dksX2_name_1 14 rfl rfl)
theorem dX2_name_37 : decode cX2_name 37 = .ok (.aload_n 0, 1) := dk_42 (dk_at dksX2_name_1 15 rfl rfl)
theorem dX2_name_38 : decode cX2_name 38 = .ok (.getfield 61, 3) := dk_180 0 61 (dk_at dksX2_name_1 16 rfl rfl)
theorem dX2_name_41 : decode cX2_name 41 = .ok (.bipush 6, 2) := dk_16 6 (dk_at dksX2_name_1 19 rfl rfl)
theorem dX2_name_43 : decode cX2_name 43 = .ok (.iadd, 1) := dk_96 (dk_at dksX2_name_1 21 rfl rfl)
theorem dX2_name_44 : decode cX2_name 44 = .ok (.invokevirtual 47, 3) := dk_182 0 47 (dk_at dksX2_name_2 0 rfl rfl)
theorem dX2_name_47 : decode cX2_name 47 = .ok (.athrow, 1) := dk_191 (dk_at dksX2_name_2 3 rfl rfl)
theorem dX2_name_48 : decode cX2_name 48 = .ok (.aload_n 1, 1) := dk_43 (dk_at dksX2_name_2 4 rfl rfl)
theorem dX2_name_49 : decode cX2_name 49 = .ok (.areturn, 1) := dk_176 (dk_at dksX2_name_2 5 rfl rfl)
abbrev cX2_number : ByteArray := prog_16_method_12_code
def yX2_number : MethodName := ⟨RX2, "number", "(Ljava/lang/String;II)I"⟩
def dkwX2_number_0 : List UInt8 := [42, 43, 182, 0, 93, 42, 28, 29, 182, 0, 96, 172]
abbrev dktX2_number_0 : List UInt8 := dkwX2_number_0 ++ []
theorem dksX2_number_0 : cX2_number.data.toList.drop 0 = dktX2_number_0 := by decide +kernel
theorem dX2_number_0 : decode cX2_number 0 = .ok (.aload_n 0, 1) := dk_42 (dk_at dksX2_number_0 0 rfl rfl)
theorem dX2_number_1 : decode cX2_number 1 = .ok (.aload_n 1, 1) := dk_43 (dk_at dksX2_number_0 1 rfl rfl)
theorem dX2_number_2 : decode cX2_number 2 = .ok (.invokevirtual 93, 3) := dk_182 0 93 (dk_at dksX2_number_0 2 rfl rfl)
theorem dX2_number_5 : decode cX2_number 5 = .ok (.aload_n 0, 1) := dk_42 (dk_at dksX2_number_0 5 rfl rfl)
theorem dX2_number_6 : decode cX2_number 6 = .ok (.iload_n 2, 1) := dk_28 (dk_at dksX2_number_0 6 rfl rfl)
theorem dX2_number_7 : decode cX2_number 7 = .ok (.iload_n 3, 1) := dk_29 (dk_at dksX2_number_0 7 rfl rfl)
theorem dX2_number_8 : decode cX2_number 8 = .ok (.invokevirtual 96, 3) := dk_182 0 96 (dk_at dksX2_number_0 8 rfl rfl)
theorem dX2_number_11 : decode cX2_number 11 = .ok (.ireturn, 1) := dk_172 (dk_at dksX2_number_0 11 rfl rfl)
abbrev cX2_word_2 : ByteArray := prog_16_method_8_code
def yX2_word_2 : MethodName := ⟨RX2, "word", "(Ljava/lang/String;)V"⟩
def dkwX2_word_2_0 : List UInt8 := [42, 182, 0, 70, 43, 182, 0, 74, 154, 0, 13, 42, 4, 42, 180, 0, 61, 182, 0, 47, 191, 177]
abbrev dktX2_word_2_0 : List UInt8 := dkwX2_word_2_0 ++ []
theorem dksX2_word_2_0 : cX2_word_2.data.toList.drop 0 = dktX2_word_2_0 := by decide +kernel
theorem dX2_word_2_0 : decode cX2_word_2 0 = .ok (.aload_n 0, 1) := dk_42 (dk_at dksX2_word_2_0 0 rfl rfl)
theorem dX2_word_2_1 : decode cX2_word_2 1 = .ok (.invokevirtual 70, 3) := dk_182 0 70 (dk_at dksX2_word_2_0 1 rfl rfl)
theorem dX2_word_2_4 : decode cX2_word_2 4 = .ok (.aload_n 1, 1) := dk_43 (dk_at dksX2_word_2_0 4 rfl rfl)
theorem dX2_word_2_5 : decode cX2_word_2 5 = .ok (.invokevirtual 74, 3) := dk_182 0 74 (dk_at dksX2_word_2_0 5 rfl rfl)
theorem dX2_word_2_8 : decode cX2_word_2 8 = .ok (.ifCond .ne 13, 3) := dk_154 0 13 (dk_at dksX2_word_2_0 8 rfl rfl)
theorem dX2_word_2_11 : decode cX2_word_2 11 = .ok (.aload_n 0, 1) := dk_42 (dk_at dksX2_word_2_0 11 rfl rfl)
theorem dX2_word_2_12 : decode cX2_word_2 12 = .ok (.iconst 1, 1) := dk_4 (dk_at dksX2_word_2_0 12 rfl rfl)
theorem dX2_word_2_13 : decode cX2_word_2 13 = .ok (.aload_n 0, 1) := dk_42 (dk_at dksX2_word_2_0 13 rfl rfl)
theorem dX2_word_2_14 : decode cX2_word_2 14 = .ok (.getfield 61, 3) := dk_180 0 61 (dk_at dksX2_word_2_0 14 rfl rfl)
theorem dX2_word_2_17 : decode cX2_word_2 17 = .ok (.invokevirtual 47, 3) := dk_182 0 47 (dk_at dksX2_word_2_0 17 rfl rfl)
theorem dX2_word_2_20 : decode cX2_word_2 20 = .ok (.athrow, 1) := dk_191 (dk_at dksX2_word_2_0 20 rfl rfl)
theorem dX2_word_2_21 : decode cX2_word_2 21 = .ok (.return_, 1) := dk_177 (dk_at dksX2_word_2_0 21 rfl rfl)
abbrev cX2_number_2 : ByteArray := prog_16_method_11_code
def yX2_number_2 : MethodName := ⟨RX2, "number", "(II)I"⟩
def dkwX2_number_2_5 : List UInt8 := [191, 29, 172]
abbrev dktX2_number_2_5 : List UInt8 := dkwX2_number_2_5 ++ []
def dkwX2_number_2_4 : List UInt8 := [181, 0, 36, 167, 255, 192, 29, 27, 28, 184, 0, 89, 154, 0, 13, 42, 5, 42, 180, 0, 61, 182, 0, 47]
abbrev dktX2_number_2_4 : List UInt8 := dkwX2_number_2_4 ++ dktX2_number_2_5
def dkwX2_number_2_3 : List UInt8 := [16, 10, 29, 104, 42, 42, 180, 0, 36, 182, 0, 39, 96, 16, 48, 100, 62, 42, 89, 180, 0, 36, 4, 96]
abbrev dktX2_number_2_3 : List UInt8 := dkwX2_number_2_3 ++ dktX2_number_2_4
def dkwX2_number_2_2 : List UInt8 := [42, 180, 0, 36, 42, 180, 0, 61, 100, 7, 160, 0, 13, 42, 4, 42, 180, 0, 36, 182, 0, 47, 191]
abbrev dktX2_number_2_2 : List UInt8 := dkwX2_number_2_2 ++ dktX2_number_2_3
def dkwX2_number_2_1 : List UInt8 := [42, 42, 180, 0, 36, 181, 0, 61, 3, 62, 42, 42, 180, 0, 36, 182, 0, 39, 184, 0, 55, 153, 0, 56]
abbrev dktX2_number_2_1 : List UInt8 := dkwX2_number_2_1 ++ dktX2_number_2_2
def dkwX2_number_2_0 : List UInt8 := [42, 182, 0, 43, 184, 0, 55, 154, 0, 13, 42, 4, 42, 180, 0, 36, 182, 0, 47, 191, 42, 182, 0, 58]
abbrev dktX2_number_2_0 : List UInt8 := dkwX2_number_2_0 ++ dktX2_number_2_1
theorem dksX2_number_2_0 : cX2_number_2.data.toList.drop 0 = dktX2_number_2_0 := by decide +kernel
theorem dksX2_number_2_1 : cX2_number_2.data.toList.drop 24 = dktX2_number_2_1 := dk_seg dksX2_number_2_0 24 rfl rfl
theorem dksX2_number_2_2 : cX2_number_2.data.toList.drop 48 = dktX2_number_2_2 := dk_seg dksX2_number_2_1 24 rfl rfl
theorem dksX2_number_2_3 : cX2_number_2.data.toList.drop 71 = dktX2_number_2_3 := dk_seg dksX2_number_2_2 23 rfl rfl
theorem dksX2_number_2_4 : cX2_number_2.data.toList.drop 95 = dktX2_number_2_4 := dk_seg dksX2_number_2_3 24 rfl rfl
theorem dksX2_number_2_5 : cX2_number_2.data.toList.drop 119 = dktX2_number_2_5 := dk_seg dksX2_number_2_4 24 rfl rfl
theorem dX2_number_2_0 : decode cX2_number_2 0 = .ok (.aload_n 0, 1) := dk_42 (dk_at dksX2_number_2_0 0 rfl rfl)
theorem dX2_number_2_1 : decode cX2_number_2 1 = .ok (.invokevirtual 43, 3) := dk_182 0 43 (dk_at dksX2_number_2_0 1 rfl rfl)
theorem dX2_number_2_4 : decode cX2_number_2 4 = .ok (.invokestatic 55, 3) := dk_184 0 55 (dk_at dksX2_number_2_0 4 rfl rfl)
theorem dX2_number_2_7 : decode cX2_number_2 7 = .ok (.ifCond .ne 13, 3) := dk_154 0 13 (dk_at dksX2_number_2_0 7 rfl rfl)
theorem dX2_number_2_10 : decode cX2_number_2 10 = .ok (.aload_n 0, 1) := dk_42 (dk_at dksX2_number_2_0 10 rfl rfl)
theorem dX2_number_2_11 : decode cX2_number_2 11 = .ok (.iconst 1, 1) := dk_4 (dk_at dksX2_number_2_0 11 rfl rfl)
theorem dX2_number_2_12 : decode cX2_number_2 12 = .ok (.aload_n 0, 1) := dk_42 (dk_at dksX2_number_2_0 12 rfl rfl)
theorem dX2_number_2_13 : decode cX2_number_2 13 = .ok (.getfield 36, 3) := dk_180 0 36 (dk_at dksX2_number_2_0 13 rfl rfl)
theorem dX2_number_2_16 : decode cX2_number_2 16 = .ok (.invokevirtual 47, 3) := dk_182 0 47 (dk_at dksX2_number_2_0 16 rfl rfl)
theorem dX2_number_2_19 : decode cX2_number_2 19 = .ok (.athrow, 1) := dk_191 (dk_at dksX2_number_2_0 19 rfl rfl)
theorem dX2_number_2_20 : decode cX2_number_2 20 = .ok (.aload_n 0, 1) := dk_42 (dk_at dksX2_number_2_0 20 rfl rfl)
theorem dX2_number_2_21 : decode cX2_number_2 21 = .ok (.invokevirtual 58, 3) := dk_182 0 58 (dk_at dksX2_number_2_0 21 rfl rfl)
theorem dX2_number_2_24 : decode cX2_number_2 24 = .ok (.aload_n 0, 1) := dk_42 (dk_at dksX2_number_2_1 0 rfl rfl)
theorem dX2_number_2_25 : decode cX2_number_2 25 = .ok (.aload_n 0, 1) := dk_42 (dk_at dksX2_number_2_1 1 rfl rfl)
theorem dX2_number_2_26 : decode cX2_number_2 26 = .ok (.getfield 36, 3) := dk_180 0 36 (dk_at dksX2_number_2_1 2 rfl rfl)
theorem dX2_number_2_29 : decode cX2_number_2 29 = .ok (.putfield 61, 3) := dk_181 0 61 (dk_at dksX2_number_2_1 5 rfl rfl)
theorem dX2_number_2_32 : decode cX2_number_2 32 = .ok (.iconst 0, 1) := dk_3 (dk_at dksX2_number_2_1 8 rfl rfl)
theorem dX2_number_2_33 : decode cX2_number_2 33 = .ok (.istore_n 3, 1) := dk_62 (dk_at dksX2_number_2_1 9 rfl rfl)
theorem dX2_number_2_34 : decode cX2_number_2 34 = .ok (.aload_n 0, 1) := dk_42 (dk_at dksX2_number_2_1 10 rfl rfl)
theorem dX2_number_2_35 : decode cX2_number_2 35 = .ok (.aload_n 0, 1) := dk_42 (dk_at dksX2_number_2_1 11 rfl rfl)
theorem dX2_number_2_36 : decode cX2_number_2 36 = .ok (.getfield 36, 3) := dk_180 0 36 (dk_at dksX2_number_2_1 12 rfl rfl)
theorem dX2_number_2_39 : decode cX2_number_2 39 = .ok (.invokevirtual 39, 3) := dk_182 0 39 (dk_at dksX2_number_2_1 15 rfl rfl)
theorem dX2_number_2_42 : decode cX2_number_2 42 = .ok (.invokestatic 55, 3) := dk_184 0 55 (dk_at dksX2_number_2_1 18 rfl rfl)
theorem dX2_number_2_45 : decode cX2_number_2 45 = .ok (.ifCond .eq 56, 3) := dk_153 0 56 (dk_at dksX2_number_2_1 21 rfl rfl)
theorem dX2_number_2_48 : decode cX2_number_2 48 = .ok (.aload_n 0, 1) := dk_42 (dk_at dksX2_number_2_2 0 rfl rfl)
theorem dX2_number_2_49 : decode cX2_number_2 49 = .ok (.getfield 36, 3) := dk_180 0 36 (dk_at dksX2_number_2_2 1 rfl rfl)
theorem dX2_number_2_52 : decode cX2_number_2 52 = .ok (.aload_n 0, 1) := dk_42 (dk_at dksX2_number_2_2 4 rfl rfl)
theorem dX2_number_2_53 : decode cX2_number_2 53 = .ok (.getfield 61, 3) := dk_180 0 61 (dk_at dksX2_number_2_2 5 rfl rfl)
theorem dX2_number_2_56 : decode cX2_number_2 56 = .ok (.isub, 1) := dk_100 (dk_at dksX2_number_2_2 8 rfl rfl)
theorem dX2_number_2_57 : decode cX2_number_2 57 = .ok (.iconst 4, 1) := dk_7 (dk_at dksX2_number_2_2 9 rfl rfl)
theorem dX2_number_2_58 : decode cX2_number_2 58 = .ok (.if_icmp .ne 13, 3) := dk_160 0 13 (dk_at dksX2_number_2_2 10 rfl rfl)
theorem dX2_number_2_61 : decode cX2_number_2 61 = .ok (.aload_n 0, 1) := dk_42 (dk_at dksX2_number_2_2 13 rfl rfl)
theorem dX2_number_2_62 : decode cX2_number_2 62 = .ok (.iconst 1, 1) := dk_4 (dk_at dksX2_number_2_2 14 rfl rfl)
theorem dX2_number_2_63 : decode cX2_number_2 63 = .ok (.aload_n 0, 1) := dk_42 (dk_at dksX2_number_2_2 15 rfl rfl)
theorem dX2_number_2_64 : decode cX2_number_2 64 = .ok (.getfield 36, 3) := dk_180 0 36 (dk_at dksX2_number_2_2 16 rfl rfl)
theorem dX2_number_2_67 : decode cX2_number_2 67 = .ok (.invokevirtual 47, 3) := dk_182 0 47 (dk_at dksX2_number_2_2 19 rfl rfl)
theorem dX2_number_2_70 : decode cX2_number_2 70 = .ok (.athrow, 1) := dk_191 (dk_at dksX2_number_2_2 22 rfl rfl)
theorem dX2_number_2_71 : decode cX2_number_2 71 = .ok (.bipush 10, 2) := dk_16 10 (dk_at dksX2_number_2_3 0 rfl rfl)
theorem dX2_number_2_73 : decode cX2_number_2 73 = .ok (.iload_n 3, 1) := dk_29 (dk_at dksX2_number_2_3 2 rfl rfl)
theorem dX2_number_2_74 : decode cX2_number_2 74 = .ok (.imul, 1) := dk_104 (dk_at dksX2_number_2_3 3 rfl rfl)
theorem dX2_number_2_75 : decode cX2_number_2 75 = .ok (.aload_n 0, 1) := dk_42 (dk_at dksX2_number_2_3 4 rfl rfl)
theorem dX2_number_2_76 : decode cX2_number_2 76 = .ok (.aload_n 0, 1) := dk_42 (dk_at dksX2_number_2_3 5 rfl rfl)
theorem dX2_number_2_77 : decode cX2_number_2 77 = .ok (.getfield 36, 3) := dk_180 0 36 (dk_at dksX2_number_2_3 6 rfl rfl)
theorem dX2_number_2_80 : decode cX2_number_2 80 = .ok (.invokevirtual 39, 3) := dk_182 0 39 (dk_at dksX2_number_2_3 9 rfl rfl)
theorem dX2_number_2_83 : decode cX2_number_2 83 = .ok (.iadd, 1) := dk_96 (dk_at dksX2_number_2_3 12 rfl rfl)
theorem dX2_number_2_84 : decode cX2_number_2 84 = .ok (.bipush 48, 2) := dk_16 48 (dk_at dksX2_number_2_3 13 rfl rfl)
theorem dX2_number_2_86 : decode cX2_number_2 86 = .ok (.isub, 1) := dk_100 (dk_at dksX2_number_2_3 15 rfl rfl)
theorem dX2_number_2_87 : decode cX2_number_2 87 = .ok (.istore_n 3, 1) := dk_62 (dk_at dksX2_number_2_3 16 rfl rfl)
theorem dX2_number_2_88 : decode cX2_number_2 88 = .ok (.aload_n 0, 1) := dk_42 (dk_at dksX2_number_2_3 17 rfl rfl)
theorem dX2_number_2_89 : decode cX2_number_2 89 = .ok (.dup, 1) := dk_89 (dk_at dksX2_number_2_3 18 rfl rfl)
theorem dX2_number_2_90 : decode cX2_number_2 90 = .ok (.getfield 36, 3) := dk_180 0 36 (dk_at dksX2_number_2_3 19 rfl rfl)
theorem dX2_number_2_93 : decode cX2_number_2 93 = .ok (.iconst 1, 1) := dk_4 (dk_at dksX2_number_2_3 22 rfl rfl)
theorem dX2_number_2_94 : decode cX2_number_2 94 = .ok (.iadd, 1) := dk_96 (dk_at dksX2_number_2_3 23 rfl rfl)
theorem dX2_number_2_95 : decode cX2_number_2 95 = .ok (.putfield 36, 3) := dk_181 0 36 (dk_at dksX2_number_2_4 0 rfl rfl)
theorem dX2_number_2_98 : decode cX2_number_2 98 = .ok (.goto (-64), 3) := dk_167 255 192 (dk_at dksX2_number_2_4 3 rfl rfl)
theorem dX2_number_2_101 : decode cX2_number_2 101 = .ok (.iload_n 3, 1) := dk_29 (dk_at dksX2_number_2_4 6 rfl rfl)
theorem dX2_number_2_102 : decode cX2_number_2 102 = .ok (.iload_n 1, 1) := dk_27 (dk_at dksX2_number_2_4 7 rfl rfl)
theorem dX2_number_2_103 : decode cX2_number_2 103 = .ok (.iload_n 2, 1) := dk_28 (dk_at dksX2_number_2_4 8 rfl rfl)
theorem dX2_number_2_104 : decode cX2_number_2 104 = .ok (.invokestatic 89, 3) := dk_184 0 89 (dk_at dksX2_number_2_4 9 rfl rfl)
theorem dX2_number_2_107 : decode cX2_number_2 107 = .ok (.ifCond .ne 13, 3) := dk_154 0 13 (dk_at dksX2_number_2_4 12 rfl rfl)
theorem dX2_number_2_110 : decode cX2_number_2 110 = .ok (.aload_n 0, 1) := dk_42 (dk_at dksX2_number_2_4 15 rfl rfl)
theorem dX2_number_2_111 : decode cX2_number_2 111 = .ok (.iconst 2, 1) := dk_5 (dk_at dksX2_number_2_4 16 rfl rfl)
theorem dX2_number_2_112 : decode cX2_number_2 112 = .ok (.aload_n 0, 1) := dk_42 (dk_at dksX2_number_2_4 17 rfl rfl)
theorem dX2_number_2_113 : decode cX2_number_2 113 = .ok (.getfield 61, 3) := dk_180 0 61 (dk_at dksX2_number_2_4 18 rfl rfl)
theorem dX2_number_2_116 : decode cX2_number_2 116 = .ok (.invokevirtual 47, 3) := dk_182 0 47 (dk_at dksX2_number_2_4 21 rfl rfl)
theorem dX2_number_2_119 : decode cX2_number_2 119 = .ok (.athrow, 1) := dk_191 (dk_at dksX2_number_2_5 0 rfl rfl)
theorem dX2_number_2_120 : decode cX2_number_2 120 = .ok (.iload_n 3, 1) := dk_29 (dk_at dksX2_number_2_5 1 rfl rfl)
theorem dX2_number_2_121 : decode cX2_number_2 121 = .ok (.ireturn, 1) := dk_172 (dk_at dksX2_number_2_5 2 rfl rfl)
abbrev cX2_test : ByteArray := prog_16_method_26_code
def yX2_test : MethodName := ⟨RX2, "test", "()LMendedThings$Test;"⟩
def dkwX2_test_2 : List UInt8 := [167, 255, 232, 43, 176]
abbrev dktX2_test_2 : List UInt8 := dkwX2_test_2 ++ []
def dkwX2_test_1 : List UInt8 := [19, 1, 46, 182, 1, 48, 153, 0, 20, 43, 180, 1, 40, 42, 182, 1, 43, 185, 0, 170, 2, 0, 87]
abbrev dktX2_test_1 : List UInt8 := dkwX2_test_1 ++ dktX2_test_2
def dkwX2_test_0 : List UInt8 := [187, 1, 35, 89, 3, 183, 1, 37, 76, 43, 180, 1, 40, 42, 182, 1, 43, 185, 0, 170, 2, 0, 87, 42]
abbrev dktX2_test_0 : List UInt8 := dkwX2_test_0 ++ dktX2_test_1
theorem dksX2_test_0 : cX2_test.data.toList.drop 0 = dktX2_test_0 := by decide +kernel
theorem dksX2_test_1 : cX2_test.data.toList.drop 24 = dktX2_test_1 := dk_seg dksX2_test_0 24 rfl rfl
theorem dksX2_test_2 : cX2_test.data.toList.drop 47 = dktX2_test_2 := dk_seg dksX2_test_1 23 rfl rfl
theorem dX2_test_0 : decode cX2_test 0 = .ok (.new 291, 3) := dk_187 1 35 (dk_at dksX2_test_0 0 rfl rfl)
theorem dX2_test_3 : decode cX2_test 3 = .ok (.dup, 1) := dk_89 (dk_at dksX2_test_0 3 rfl rfl)
theorem dX2_test_4 : decode cX2_test 4 = .ok (.iconst 0, 1) := dk_3 (dk_at dksX2_test_0 4 rfl rfl)
theorem dX2_test_5 : decode cX2_test 5 = .ok (.invokespecial 293, 3) := dk_183 1 37 (dk_at dksX2_test_0 5 rfl rfl)
theorem dX2_test_8 : decode cX2_test 8 = .ok (.astore_n 1, 1) := dk_76 (dk_at dksX2_test_0 8 rfl rfl)
theorem dX2_test_9 : decode cX2_test 9 = .ok (.aload_n 1, 1) := dk_43 (dk_at dksX2_test_0 9 rfl rfl)
theorem dX2_test_10 : decode cX2_test 10 = .ok (.getfield 296, 3) := dk_180 1 40 (dk_at dksX2_test_0 10 rfl rfl)
theorem dX2_test_13 : decode cX2_test 13 = .ok (.aload_n 0, 1) := dk_42 (dk_at dksX2_test_0 13 rfl rfl)
theorem dX2_test_14 : decode cX2_test 14 = .ok (.invokevirtual 299, 3) := dk_182 1 43 (dk_at dksX2_test_0 14 rfl rfl)
theorem dX2_test_17 : decode cX2_test 17 = .ok (.invokeinterface 170 2, 5) := by decide +kernel
theorem dX2_test_22 : decode cX2_test 22 = .ok (.pop, 1) := dk_87 (dk_at dksX2_test_0 22 rfl rfl)
theorem dX2_test_23 : decode cX2_test 23 = .ok (.aload_n 0, 1) := dk_42 (dk_at dksX2_test_0 23 rfl rfl)
theorem dX2_test_24 : decode cX2_test 24 = .ok (.ldc_w 302, 3) := dk_19 1 46 (dk_at dksX2_test_1 0 rfl rfl)
theorem dX2_test_27 : decode cX2_test 27 = .ok (.invokevirtual 304, 3) := dk_182 1 48 (dk_at dksX2_test_1 3 rfl rfl)
theorem dX2_test_30 : decode cX2_test 30 = .ok (.ifCond .eq 20, 3) := dk_153 0 20 (dk_at dksX2_test_1 6 rfl rfl)
theorem dX2_test_33 : decode cX2_test 33 = .ok (.aload_n 1, 1) := dk_43 (dk_at dksX2_test_1 9 rfl rfl)
theorem dX2_test_34 : decode cX2_test 34 = .ok (.getfield 296, 3) := dk_180 1 40 (dk_at dksX2_test_1 10 rfl rfl)
theorem dX2_test_37 : decode cX2_test 37 = .ok (.aload_n 0, 1) := dk_42 (dk_at dksX2_test_1 13 rfl rfl)
theorem dX2_test_38 : decode cX2_test 38 = .ok (.invokevirtual 299, 3) := dk_182 1 43 (dk_at dksX2_test_1 14 rfl rfl)
theorem dX2_test_41 : decode cX2_test 41 = .ok (.invokeinterface 170 2, 5) := by decide +kernel
theorem dX2_test_46 : decode cX2_test 46 = .ok (.pop, 1) := dk_87 (dk_at dksX2_test_1 22 rfl rfl)
theorem dX2_test_47 : decode cX2_test 47 = .ok (.goto (-24), 3) := dk_167 255 232 (dk_at dksX2_test_2 0 rfl rfl)
theorem dX2_test_50 : decode cX2_test 50 = .ok (.aload_n 1, 1) := dk_43 (dk_at dksX2_test_2 3 rfl rfl)
theorem dX2_test_51 : decode cX2_test 51 = .ok (.areturn, 1) := dk_176 (dk_at dksX2_test_2 4 rfl rfl)
abbrev cX2_both : ByteArray := prog_16_method_27_code
def yX2_both : MethodName := ⟨RX2, "both", "()LMendedThings$Test;"⟩
def dkwX2_both_2 : List UInt8 := [167, 255, 232, 43, 176]
abbrev dktX2_both_2 : List UInt8 := dkwX2_both_2 ++ []
def dkwX2_both_1 : List UInt8 := [19, 1, 54, 182, 1, 48, 153, 0, 20, 43, 180, 1, 40, 42, 182, 1, 51, 185, 0, 170, 2, 0, 87]
abbrev dktX2_both_1 : List UInt8 := dkwX2_both_1 ++ dktX2_both_2
def dkwX2_both_0 : List UInt8 := [187, 1, 35, 89, 4, 183, 1, 37, 76, 43, 180, 1, 40, 42, 182, 1, 51, 185, 0, 170, 2, 0, 87, 42]
abbrev dktX2_both_0 : List UInt8 := dkwX2_both_0 ++ dktX2_both_1
theorem dksX2_both_0 : cX2_both.data.toList.drop 0 = dktX2_both_0 := by decide +kernel
theorem dksX2_both_1 : cX2_both.data.toList.drop 24 = dktX2_both_1 := dk_seg dksX2_both_0 24 rfl rfl
theorem dksX2_both_2 : cX2_both.data.toList.drop 47 = dktX2_both_2 := dk_seg dksX2_both_1 23 rfl rfl
theorem dX2_both_0 : decode cX2_both 0 = .ok (.new 291, 3) := dk_187 1 35 (dk_at dksX2_both_0 0 rfl rfl)
theorem dX2_both_3 : decode cX2_both 3 = .ok (.dup, 1) := dk_89 (dk_at dksX2_both_0 3 rfl rfl)
theorem dX2_both_4 : decode cX2_both 4 = .ok (.iconst 1, 1) := dk_4 (dk_at dksX2_both_0 4 rfl rfl)
theorem dX2_both_5 : decode cX2_both 5 = .ok (.invokespecial 293, 3) := dk_183 1 37 (dk_at dksX2_both_0 5 rfl rfl)
theorem dX2_both_8 : decode cX2_both 8 = .ok (.astore_n 1, 1) := dk_76 (dk_at dksX2_both_0 8 rfl rfl)
theorem dX2_both_9 : decode cX2_both 9 = .ok (.aload_n 1, 1) := dk_43 (dk_at dksX2_both_0 9 rfl rfl)
theorem dX2_both_10 : decode cX2_both 10 = .ok (.getfield 296, 3) := dk_180 1 40 (dk_at dksX2_both_0 10 rfl rfl)
theorem dX2_both_13 : decode cX2_both 13 = .ok (.aload_n 0, 1) := dk_42 (dk_at dksX2_both_0 13 rfl rfl)
theorem dX2_both_14 : decode cX2_both 14 = .ok (.invokevirtual 307, 3) := dk_182 1 51 (dk_at dksX2_both_0 14 rfl rfl)
theorem dX2_both_17 : decode cX2_both 17 = .ok (.invokeinterface 170 2, 5) := by decide +kernel
theorem dX2_both_22 : decode cX2_both 22 = .ok (.pop, 1) := dk_87 (dk_at dksX2_both_0 22 rfl rfl)
theorem dX2_both_23 : decode cX2_both 23 = .ok (.aload_n 0, 1) := dk_42 (dk_at dksX2_both_0 23 rfl rfl)
theorem dX2_both_24 : decode cX2_both 24 = .ok (.ldc_w 310, 3) := dk_19 1 54 (dk_at dksX2_both_1 0 rfl rfl)
theorem dX2_both_27 : decode cX2_both 27 = .ok (.invokevirtual 304, 3) := dk_182 1 48 (dk_at dksX2_both_1 3 rfl rfl)
theorem dX2_both_30 : decode cX2_both 30 = .ok (.ifCond .eq 20, 3) := dk_153 0 20 (dk_at dksX2_both_1 6 rfl rfl)
theorem dX2_both_33 : decode cX2_both 33 = .ok (.aload_n 1, 1) := dk_43 (dk_at dksX2_both_1 9 rfl rfl)
theorem dX2_both_34 : decode cX2_both 34 = .ok (.getfield 296, 3) := dk_180 1 40 (dk_at dksX2_both_1 10 rfl rfl)
theorem dX2_both_37 : decode cX2_both 37 = .ok (.aload_n 0, 1) := dk_42 (dk_at dksX2_both_1 13 rfl rfl)
theorem dX2_both_38 : decode cX2_both 38 = .ok (.invokevirtual 307, 3) := dk_182 1 51 (dk_at dksX2_both_1 14 rfl rfl)
theorem dX2_both_41 : decode cX2_both 41 = .ok (.invokeinterface 170 2, 5) := by decide +kernel
theorem dX2_both_46 : decode cX2_both 46 = .ok (.pop, 1) := dk_87 (dk_at dksX2_both_1 22 rfl rfl)
theorem dX2_both_47 : decode cX2_both 47 = .ok (.goto (-24), 3) := dk_167 255 232 (dk_at dksX2_both_2 0 rfl rfl)
theorem dX2_both_50 : decode cX2_both 50 = .ok (.aload_n 1, 1) := dk_43 (dk_at dksX2_both_2 3 rfl rfl)
theorem dX2_both_51 : decode cX2_both 51 = .ok (.areturn, 1) := dk_176 (dk_at dksX2_both_2 4 rfl rfl)
abbrev cX2_fact : ByteArray := prog_16_method_28_code
def yX2_fact : MethodName := ⟨RX2, "fact", "()LMendedThings$Test;"⟩
def dkwX2_fact_7 : List UInt8 := [183, 1, 70, 176]
abbrev dktX2_fact_7 : List UInt8 := dkwX2_fact_7 ++ []
def dkwX2_fact_6 : List UInt8 := [182, 0, 47, 191, 42, 89, 180, 0, 36, 4, 96, 181, 0, 36, 187, 1, 68, 89, 43, 28, 42, 182, 0, 201]
abbrev dktX2_fact_6 : List UInt8 := dkwX2_fact_6 ++ dktX2_fact_7
def dkwX2_fact_5 : List UInt8 := [28, 16, 60, 159, 0, 25, 28, 16, 62, 159, 0, 19, 28, 16, 61, 159, 0, 13, 42, 4, 42, 180, 0, 36]
abbrev dktX2_fact_5 : List UInt8 := dkwX2_fact_5 ++ dktX2_fact_6
def dkwX2_fact_4 : List UInt8 := [182, 1, 48, 153, 0, 11, 187, 1, 65, 89, 183, 1, 67, 176, 42, 182, 0, 201, 76, 42, 182, 0, 43, 61]
abbrev dktX2_fact_4 : List UInt8 := dkwX2_fact_4 ++ dktX2_fact_5
def dkwX2_fact_3 : List UInt8 := [42, 182, 1, 51, 183, 1, 60, 76, 42, 89, 180, 0, 114, 4, 100, 181, 0, 114, 43, 176, 42, 19, 1, 63]
abbrev dktX2_fact_3 : List UInt8 := dkwX2_fact_3 ++ dktX2_fact_4
def dkwX2_fact_2 : List UInt8 := [43, 176, 42, 19, 1, 56, 182, 1, 48, 153, 0, 35, 42, 42, 180, 0, 61, 182, 0, 253, 187, 1, 58, 89]
abbrev dktX2_fact_2 : List UInt8 := dkwX2_fact_2 ++ dktX2_fact_3
def dkwX2_fact_1 : List UInt8 := [181, 0, 36, 42, 182, 0, 194, 76, 42, 16, 93, 182, 0, 132, 42, 89, 180, 0, 114, 4, 100, 181, 0, 114]
abbrev dktX2_fact_1 : List UInt8 := dkwX2_fact_1 ++ dktX2_fact_2
def dkwX2_fact_0 : List UInt8 := [42, 182, 0, 43, 16, 91, 160, 0, 44, 42, 42, 180, 0, 36, 182, 0, 253, 42, 89, 180, 0, 36, 4, 96]
abbrev dktX2_fact_0 : List UInt8 := dkwX2_fact_0 ++ dktX2_fact_1
theorem dksX2_fact_0 : cX2_fact.data.toList.drop 0 = dktX2_fact_0 := by decide +kernel
theorem dksX2_fact_1 : cX2_fact.data.toList.drop 24 = dktX2_fact_1 := dk_seg dksX2_fact_0 24 rfl rfl
theorem dksX2_fact_2 : cX2_fact.data.toList.drop 48 = dktX2_fact_2 := dk_seg dksX2_fact_1 24 rfl rfl
theorem dksX2_fact_3 : cX2_fact.data.toList.drop 72 = dktX2_fact_3 := dk_seg dksX2_fact_2 24 rfl rfl
theorem dksX2_fact_4 : cX2_fact.data.toList.drop 96 = dktX2_fact_4 := dk_seg dksX2_fact_3 24 rfl rfl
theorem dksX2_fact_5 : cX2_fact.data.toList.drop 120 = dktX2_fact_5 := dk_seg dksX2_fact_4 24 rfl rfl
theorem dksX2_fact_6 : cX2_fact.data.toList.drop 144 = dktX2_fact_6 := dk_seg dksX2_fact_5 24 rfl rfl
theorem dksX2_fact_7 : cX2_fact.data.toList.drop 168 = dktX2_fact_7 := dk_seg dksX2_fact_6 24 rfl rfl
theorem dX2_fact_0 : decode cX2_fact 0 = .ok (.aload_n 0, 1) := dk_42 (dk_at dksX2_fact_0 0 rfl rfl)
theorem dX2_fact_1 : decode cX2_fact 1 = .ok (.invokevirtual 43, 3) := dk_182 0 43 (dk_at dksX2_fact_0 1 rfl rfl)
theorem dX2_fact_4 : decode cX2_fact 4 = .ok (.bipush 91, 2) := dk_16 91 (dk_at dksX2_fact_0 4 rfl rfl)
theorem dX2_fact_6 : decode cX2_fact 6 = .ok (.if_icmp .ne 44, 3) := dk_160 0 44 (dk_at dksX2_fact_0 6 rfl rfl)
theorem dX2_fact_9 : decode cX2_fact 9 = .ok (.aload_n 0, 1) := dk_42 (dk_at dksX2_fact_0 9 rfl rfl)
theorem dX2_fact_10 : decode cX2_fact 10 = .ok (.aload_n 0, 1) := dk_42 (dk_at dksX2_fact_0 10 rfl rfl)
theorem dX2_fact_11 : decode cX2_fact 11 = .ok (.getfield 36, 3) := dk_180 0 36 (dk_at dksX2_fact_0 11 rfl rfl)
theorem dX2_fact_14 : decode cX2_fact 14 = .ok (.invokevirtual 253, 3) := dk_182 0 253 (dk_at dksX2_fact_0 14 rfl rfl)
theorem dX2_fact_17 : decode cX2_fact 17 = .ok (.aload_n 0, 1) := dk_42 (dk_at dksX2_fact_0 17 rfl rfl)
theorem dX2_fact_18 : decode cX2_fact 18 = .ok (.dup, 1) := dk_89 (dk_at dksX2_fact_0 18 rfl rfl)
theorem dX2_fact_19 : decode cX2_fact 19 = .ok (.getfield 36, 3) := dk_180 0 36 (dk_at dksX2_fact_0 19 rfl rfl)
theorem dX2_fact_22 : decode cX2_fact 22 = .ok (.iconst 1, 1) := dk_4 (dk_at dksX2_fact_0 22 rfl rfl)
theorem dX2_fact_23 : decode cX2_fact 23 = .ok (.iadd, 1) := dk_96 (dk_at dksX2_fact_0 23 rfl rfl)
theorem dX2_fact_24 : decode cX2_fact 24 = .ok (.putfield 36, 3) := dk_181 0 36 (dk_at dksX2_fact_1 0 rfl rfl)
theorem dX2_fact_27 : decode cX2_fact 27 = .ok (.aload_n 0, 1) := dk_42 (dk_at dksX2_fact_1 3 rfl rfl)
theorem dX2_fact_28 : decode cX2_fact 28 = .ok (.invokevirtual 194, 3) := dk_182 0 194 (dk_at dksX2_fact_1 4 rfl rfl)
theorem dX2_fact_31 : decode cX2_fact 31 = .ok (.astore_n 1, 1) := dk_76 (dk_at dksX2_fact_1 7 rfl rfl)
theorem dX2_fact_32 : decode cX2_fact 32 = .ok (.aload_n 0, 1) := dk_42 (dk_at dksX2_fact_1 8 rfl rfl)
theorem dX2_fact_33 : decode cX2_fact 33 = .ok (.bipush 93, 2) := dk_16 93 (dk_at dksX2_fact_1 9 rfl rfl)
theorem dX2_fact_35 : decode cX2_fact 35 = .ok (.invokevirtual 132, 3) := dk_182 0 132 (dk_at dksX2_fact_1 11 rfl rfl)
theorem dX2_fact_38 : decode cX2_fact 38 = .ok (.aload_n 0, 1) := dk_42 (dk_at dksX2_fact_1 14 rfl rfl)
theorem dX2_fact_39 : decode cX2_fact 39 = .ok (.dup, 1) := dk_89 (dk_at dksX2_fact_1 15 rfl rfl)
theorem dX2_fact_40 : decode cX2_fact 40 = .ok (.getfield 114, 3) := dk_180 0 114 (dk_at dksX2_fact_1 16 rfl rfl)
theorem dX2_fact_43 : decode cX2_fact 43 = .ok (.iconst 1, 1) := dk_4 (dk_at dksX2_fact_1 19 rfl rfl)
theorem dX2_fact_44 : decode cX2_fact 44 = .ok (.isub, 1) := dk_100 (dk_at dksX2_fact_1 20 rfl rfl)
theorem dX2_fact_45 : decode cX2_fact 45 = .ok (.putfield 114, 3) := dk_181 0 114 (dk_at dksX2_fact_1 21 rfl rfl)
theorem dX2_fact_48 : decode cX2_fact 48 = .ok (.aload_n 1, 1) := dk_43 (dk_at dksX2_fact_2 0 rfl rfl)
theorem dX2_fact_49 : decode cX2_fact 49 = .ok (.areturn, 1) := dk_176 (dk_at dksX2_fact_2 1 rfl rfl)
theorem dX2_fact_50 : decode cX2_fact 50 = .ok (.aload_n 0, 1) := dk_42 (dk_at dksX2_fact_2 2 rfl rfl)
theorem dX2_fact_51 : decode cX2_fact 51 = .ok (.ldc_w 312, 3) := dk_19 1 56 (dk_at dksX2_fact_2 3 rfl rfl)
theorem dX2_fact_54 : decode cX2_fact 54 = .ok (.invokevirtual 304, 3) := dk_182 1 48 (dk_at dksX2_fact_2 6 rfl rfl)
theorem dX2_fact_57 : decode cX2_fact 57 = .ok (.ifCond .eq 35, 3) := dk_153 0 35 (dk_at dksX2_fact_2 9 rfl rfl)
theorem dX2_fact_60 : decode cX2_fact 60 = .ok (.aload_n 0, 1) := dk_42 (dk_at dksX2_fact_2 12 rfl rfl)
theorem dX2_fact_61 : decode cX2_fact 61 = .ok (.aload_n 0, 1) := dk_42 (dk_at dksX2_fact_2 13 rfl rfl)
theorem dX2_fact_62 : decode cX2_fact 62 = .ok (.getfield 61, 3) := dk_180 0 61 (dk_at dksX2_fact_2 14 rfl rfl)
theorem dX2_fact_65 : decode cX2_fact 65 = .ok (.invokevirtual 253, 3) := dk_182 0 253 (dk_at dksX2_fact_2 17 rfl rfl)
theorem dX2_fact_68 : decode cX2_fact 68 = .ok (.new 314, 3) := dk_187 1 58 (dk_at dksX2_fact_2 20 rfl rfl)
theorem dX2_fact_71 : decode cX2_fact 71 = .ok (.dup, 1) := dk_89 (dk_at dksX2_fact_2 23 rfl rfl)
theorem dX2_fact_72 : decode cX2_fact 72 = .ok (.aload_n 0, 1) := dk_42 (dk_at dksX2_fact_3 0 rfl rfl)
theorem dX2_fact_73 : decode cX2_fact 73 = .ok (.invokevirtual 307, 3) := dk_182 1 51 (dk_at dksX2_fact_3 1 rfl rfl)
theorem dX2_fact_76 : decode cX2_fact 76 = .ok (.invokespecial 316, 3) := dk_183 1 60 (dk_at dksX2_fact_3 4 rfl rfl)
theorem dX2_fact_79 : decode cX2_fact 79 = .ok (.astore_n 1, 1) := dk_76 (dk_at dksX2_fact_3 7 rfl rfl)
theorem dX2_fact_80 : decode cX2_fact 80 = .ok (.aload_n 0, 1) := dk_42 (dk_at dksX2_fact_3 8 rfl rfl)
theorem dX2_fact_81 : decode cX2_fact 81 = .ok (.dup, 1) := dk_89 (dk_at dksX2_fact_3 9 rfl rfl)
theorem dX2_fact_82 : decode cX2_fact 82 = .ok (.getfield 114, 3) := dk_180 0 114 (dk_at dksX2_fact_3 10 rfl rfl)
theorem dX2_fact_85 : decode cX2_fact 85 = .ok (.iconst 1, 1) := dk_4 (dk_at dksX2_fact_3 13 rfl rfl)
theorem dX2_fact_86 : decode cX2_fact 86 = .ok (.isub, 1) := dk_100 (dk_at dksX2_fact_3 14 rfl rfl)
theorem dX2_fact_87 : decode cX2_fact 87 = .ok (.putfield 114, 3) := dk_181 0 114 (dk_at dksX2_fact_3 15 rfl rfl)
theorem dX2_fact_90 : decode cX2_fact 90 = .ok (.aload_n 1, 1) := dk_43 (dk_at dksX2_fact_3 18 rfl rfl)
theorem dX2_fact_91 : decode cX2_fact 91 = .ok (.areturn, 1) := dk_176 (dk_at dksX2_fact_3 19 rfl rfl)
theorem dX2_fact_92 : decode cX2_fact 92 = .ok (.aload_n 0, 1) := dk_42 (dk_at dksX2_fact_3 20 rfl rfl)
theorem dX2_fact_93 : decode cX2_fact 93 = .ok (.ldc_w 319, 3) := dk_19 1 63 (dk_at dksX2_fact_3 21 rfl rfl)
theorem dX2_fact_96 : decode cX2_fact 96 = .ok (.invokevirtual 304, 3) := dk_182 1 48 (dk_at dksX2_fact_4 0 rfl rfl)
theorem dX2_fact_99 : decode cX2_fact 99 = .ok (.ifCond .eq 11, 3) := dk_153 0 11 (dk_at dksX2_fact_4 3 rfl rfl)
theorem dX2_fact_102 : decode cX2_fact 102 = .ok (.new 321, 3) := dk_187 1 65 (dk_at dksX2_fact_4 6 rfl rfl)
theorem dX2_fact_105 : decode cX2_fact 105 = .ok (.dup, 1) := dk_89 (dk_at dksX2_fact_4 9 rfl rfl)
theorem dX2_fact_106 : decode cX2_fact 106 = .ok (.invokespecial 323, 3) := dk_183 1 67 (dk_at dksX2_fact_4 10 rfl rfl)
theorem dX2_fact_109 : decode cX2_fact 109 = .ok (.areturn, 1) := dk_176 (dk_at dksX2_fact_4 13 rfl rfl)
theorem dX2_fact_110 : decode cX2_fact 110 = .ok (.aload_n 0, 1) := dk_42 (dk_at dksX2_fact_4 14 rfl rfl)
theorem dX2_fact_111 : decode cX2_fact 111 = .ok (.invokevirtual 201, 3) := dk_182 0 201 (dk_at dksX2_fact_4 15 rfl rfl)
theorem dX2_fact_114 : decode cX2_fact 114 = .ok (.astore_n 1, 1) := dk_76 (dk_at dksX2_fact_4 18 rfl rfl)
theorem dX2_fact_115 : decode cX2_fact 115 = .ok (.aload_n 0, 1) := dk_42 (dk_at dksX2_fact_4 19 rfl rfl)
theorem dX2_fact_116 : decode cX2_fact 116 = .ok (.invokevirtual 43, 3) := dk_182 0 43 (dk_at dksX2_fact_4 20 rfl rfl)
theorem dX2_fact_119 : decode cX2_fact 119 = .ok (.istore_n 2, 1) := dk_61 (dk_at dksX2_fact_4 23 rfl rfl)
theorem dX2_fact_120 : decode cX2_fact 120 = .ok (.iload_n 2, 1) := dk_28 (dk_at dksX2_fact_5 0 rfl rfl)
theorem dX2_fact_121 : decode cX2_fact 121 = .ok (.bipush 60, 2) := dk_16 60 (dk_at dksX2_fact_5 1 rfl rfl)
theorem dX2_fact_123 : decode cX2_fact 123 = .ok (.if_icmp .eq 25, 3) := dk_159 0 25 (dk_at dksX2_fact_5 3 rfl rfl)
theorem dX2_fact_126 : decode cX2_fact 126 = .ok (.iload_n 2, 1) := dk_28 (dk_at dksX2_fact_5 6 rfl rfl)
theorem dX2_fact_127 : decode cX2_fact 127 = .ok (.bipush 62, 2) := dk_16 62 (dk_at dksX2_fact_5 7 rfl rfl)
theorem dX2_fact_129 : decode cX2_fact 129 = .ok (.if_icmp .eq 19, 3) := dk_159 0 19 (dk_at dksX2_fact_5 9 rfl rfl)
theorem dX2_fact_132 : decode cX2_fact 132 = .ok (.iload_n 2, 1) := dk_28 (dk_at dksX2_fact_5 12 rfl rfl)
theorem dX2_fact_133 : decode cX2_fact 133 = .ok (.bipush 61, 2) := dk_16 61 (dk_at dksX2_fact_5 13 rfl rfl)
theorem dX2_fact_135 : decode cX2_fact 135 = .ok (.if_icmp .eq 13, 3) := dk_159 0 13 (dk_at dksX2_fact_5 15 rfl rfl)
theorem dX2_fact_138 : decode cX2_fact 138 = .ok (.aload_n 0, 1) := dk_42 (dk_at dksX2_fact_5 18 rfl rfl)
theorem dX2_fact_139 : decode cX2_fact 139 = .ok (.iconst 1, 1) := dk_4 (dk_at dksX2_fact_5 19 rfl rfl)
theorem dX2_fact_140 : decode cX2_fact 140 = .ok (.aload_n 0, 1) := dk_42 (dk_at dksX2_fact_5 20 rfl rfl)
theorem dX2_fact_141 : decode cX2_fact 141 = .ok (.getfield 36, 3) := dk_180 0 36 (dk_at dksX2_fact_5 21 rfl rfl)
theorem dX2_fact_144 : decode cX2_fact 144 = .ok (.invokevirtual 47, 3) := dk_182 0 47 (dk_at dksX2_fact_6 0 rfl rfl)
theorem dX2_fact_147 : decode cX2_fact 147 = .ok (.athrow, 1) := dk_191 (dk_at dksX2_fact_6 3 rfl rfl)
theorem dX2_fact_148 : decode cX2_fact 148 = .ok (.aload_n 0, 1) := dk_42 (dk_at dksX2_fact_6 4 rfl rfl)
theorem dX2_fact_149 : decode cX2_fact 149 = .ok (.dup, 1) := dk_89 (dk_at dksX2_fact_6 5 rfl rfl)
theorem dX2_fact_150 : decode cX2_fact 150 = .ok (.getfield 36, 3) := dk_180 0 36 (dk_at dksX2_fact_6 6 rfl rfl)
theorem dX2_fact_153 : decode cX2_fact 153 = .ok (.iconst 1, 1) := dk_4 (dk_at dksX2_fact_6 9 rfl rfl)
theorem dX2_fact_154 : decode cX2_fact 154 = .ok (.iadd, 1) := dk_96 (dk_at dksX2_fact_6 10 rfl rfl)
theorem dX2_fact_155 : decode cX2_fact 155 = .ok (.putfield 36, 3) := dk_181 0 36 (dk_at dksX2_fact_6 11 rfl rfl)
theorem dX2_fact_158 : decode cX2_fact 158 = .ok (.new 324, 3) := dk_187 1 68 (dk_at dksX2_fact_6 14 rfl rfl)
theorem dX2_fact_161 : decode cX2_fact 161 = .ok (.dup, 1) := dk_89 (dk_at dksX2_fact_6 17 rfl rfl)
theorem dX2_fact_162 : decode cX2_fact 162 = .ok (.aload_n 1, 1) := dk_43 (dk_at dksX2_fact_6 18 rfl rfl)
theorem dX2_fact_163 : decode cX2_fact 163 = .ok (.iload_n 2, 1) := dk_28 (dk_at dksX2_fact_6 19 rfl rfl)
theorem dX2_fact_164 : decode cX2_fact 164 = .ok (.aload_n 0, 1) := dk_42 (dk_at dksX2_fact_6 20 rfl rfl)
theorem dX2_fact_165 : decode cX2_fact 165 = .ok (.invokevirtual 201, 3) := dk_182 0 201 (dk_at dksX2_fact_6 21 rfl rfl)
theorem dX2_fact_168 : decode cX2_fact 168 = .ok (.invokespecial 326, 3) := dk_183 1 70 (dk_at dksX2_fact_7 0 rfl rfl)
theorem dX2_fact_171 : decode cX2_fact 171 = .ok (.areturn, 1) := dk_176 (dk_at dksX2_fact_7 3 rfl rfl)
abbrev cX2_opens : ByteArray := prog_16_method_23_code
def yX2_opens : MethodName := ⟨RX2, "opens", "(I)V"⟩
def dkwX2_opens_1 : List UInt8 := [181, 0, 114, 177]
abbrev dktX2_opens_1 : List UInt8 := dkwX2_opens_1 ++ []
def dkwX2_opens_0 : List UInt8 := [42, 180, 0, 114, 16, 6, 160, 0, 10, 42, 7, 27, 182, 0, 47, 191, 42, 89, 180, 0, 114, 4, 96]
abbrev dktX2_opens_0 : List UInt8 := dkwX2_opens_0 ++ dktX2_opens_1
theorem dksX2_opens_0 : cX2_opens.data.toList.drop 0 = dktX2_opens_0 := by decide +kernel
theorem dksX2_opens_1 : cX2_opens.data.toList.drop 23 = dktX2_opens_1 := dk_seg dksX2_opens_0 23 rfl rfl
theorem dX2_opens_0 : decode cX2_opens 0 = .ok (.aload_n 0, 1) := dk_42 (dk_at dksX2_opens_0 0 rfl rfl)
theorem dX2_opens_1 : decode cX2_opens 1 = .ok (.getfield 114, 3) := dk_180 0 114 (dk_at dksX2_opens_0 1 rfl rfl)
theorem dX2_opens_4 : decode cX2_opens 4 = .ok (.bipush 6, 2) := dk_16 6 (dk_at dksX2_opens_0 4 rfl rfl)
theorem dX2_opens_6 : decode cX2_opens 6 = .ok (.if_icmp .ne 10, 3) := dk_160 0 10 (dk_at dksX2_opens_0 6 rfl rfl)
theorem dX2_opens_9 : decode cX2_opens 9 = .ok (.aload_n 0, 1) := dk_42 (dk_at dksX2_opens_0 9 rfl rfl)
theorem dX2_opens_10 : decode cX2_opens 10 = .ok (.iconst 4, 1) := dk_7 (dk_at dksX2_opens_0 10 rfl rfl)
theorem dX2_opens_11 : decode cX2_opens 11 = .ok (.iload_n 1, 1) := dk_27 (dk_at dksX2_opens_0 11 rfl rfl)
theorem dX2_opens_12 : decode cX2_opens 12 = .ok (.invokevirtual 47, 3) := dk_182 0 47 (dk_at dksX2_opens_0 12 rfl rfl)
theorem dX2_opens_15 : decode cX2_opens 15 = .ok (.athrow, 1) := dk_191 (dk_at dksX2_opens_0 15 rfl rfl)
theorem dX2_opens_16 : decode cX2_opens 16 = .ok (.aload_n 0, 1) := dk_42 (dk_at dksX2_opens_0 16 rfl rfl)
theorem dX2_opens_17 : decode cX2_opens 17 = .ok (.dup, 1) := dk_89 (dk_at dksX2_opens_0 17 rfl rfl)
theorem dX2_opens_18 : decode cX2_opens 18 = .ok (.getfield 114, 3) := dk_180 0 114 (dk_at dksX2_opens_0 18 rfl rfl)
theorem dX2_opens_21 : decode cX2_opens 21 = .ok (.iconst 1, 1) := dk_4 (dk_at dksX2_opens_0 21 rfl rfl)
theorem dX2_opens_22 : decode cX2_opens 22 = .ok (.iadd, 1) := dk_96 (dk_at dksX2_opens_0 22 rfl rfl)
theorem dX2_opens_23 : decode cX2_opens 23 = .ok (.putfield 114, 3) := dk_181 0 114 (dk_at dksX2_opens_1 0 rfl rfl)
theorem dX2_opens_26 : decode cX2_opens 26 = .ok (.return_, 1) := dk_177 (dk_at dksX2_opens_1 3 rfl rfl)
abbrev cX2_must : ByteArray := prog_16_method_5_code
def yX2_must : MethodName := ⟨RX2, "must", "(I)V"⟩
def dkwX2_must_1 : List UInt8 := [96, 181, 0, 36, 177]
abbrev dktX2_must_1 : List UInt8 := dkwX2_must_1 ++ []
def dkwX2_must_0 : List UInt8 := [42, 182, 0, 43, 27, 159, 0, 13, 42, 4, 42, 180, 0, 36, 182, 0, 47, 191, 42, 89, 180, 0, 36, 4]
abbrev dktX2_must_0 : List UInt8 := dkwX2_must_0 ++ dktX2_must_1
theorem dksX2_must_0 : cX2_must.data.toList.drop 0 = dktX2_must_0 := by decide +kernel
theorem dksX2_must_1 : cX2_must.data.toList.drop 24 = dktX2_must_1 := dk_seg dksX2_must_0 24 rfl rfl
theorem dX2_must_0 : decode cX2_must 0 = .ok (.aload_n 0, 1) := dk_42 (dk_at dksX2_must_0 0 rfl rfl)
theorem dX2_must_1 : decode cX2_must 1 = .ok (.invokevirtual 43, 3) := dk_182 0 43 (dk_at dksX2_must_0 1 rfl rfl)
theorem dX2_must_4 : decode cX2_must 4 = .ok (.iload_n 1, 1) := dk_27 (dk_at dksX2_must_0 4 rfl rfl)
theorem dX2_must_5 : decode cX2_must 5 = .ok (.if_icmp .eq 13, 3) := dk_159 0 13 (dk_at dksX2_must_0 5 rfl rfl)
theorem dX2_must_8 : decode cX2_must 8 = .ok (.aload_n 0, 1) := dk_42 (dk_at dksX2_must_0 8 rfl rfl)
theorem dX2_must_9 : decode cX2_must 9 = .ok (.iconst 1, 1) := dk_4 (dk_at dksX2_must_0 9 rfl rfl)
theorem dX2_must_10 : decode cX2_must 10 = .ok (.aload_n 0, 1) := dk_42 (dk_at dksX2_must_0 10 rfl rfl)
theorem dX2_must_11 : decode cX2_must 11 = .ok (.getfield 36, 3) := dk_180 0 36 (dk_at dksX2_must_0 11 rfl rfl)
theorem dX2_must_14 : decode cX2_must 14 = .ok (.invokevirtual 47, 3) := dk_182 0 47 (dk_at dksX2_must_0 14 rfl rfl)
theorem dX2_must_17 : decode cX2_must 17 = .ok (.athrow, 1) := dk_191 (dk_at dksX2_must_0 17 rfl rfl)
theorem dX2_must_18 : decode cX2_must 18 = .ok (.aload_n 0, 1) := dk_42 (dk_at dksX2_must_0 18 rfl rfl)
theorem dX2_must_19 : decode cX2_must 19 = .ok (.dup, 1) := dk_89 (dk_at dksX2_must_0 19 rfl rfl)
theorem dX2_must_20 : decode cX2_must 20 = .ok (.getfield 36, 3) := dk_180 0 36 (dk_at dksX2_must_0 20 rfl rfl)
theorem dX2_must_23 : decode cX2_must 23 = .ok (.iconst 1, 1) := dk_4 (dk_at dksX2_must_0 23 rfl rfl)
theorem dX2_must_24 : decode cX2_must 24 = .ok (.iadd, 1) := dk_96 (dk_at dksX2_must_1 0 rfl rfl)
theorem dX2_must_25 : decode cX2_must 25 = .ok (.putfield 36, 3) := dk_181 0 36 (dk_at dksX2_must_1 1 rfl rfl)
theorem dX2_must_28 : decode cX2_must 28 = .ok (.return_, 1) := dk_177 (dk_at dksX2_must_1 4 rfl rfl)
abbrev cX2_passes : ByteArray := prog_16_method_9_code
def yX2_passes : MethodName := ⟨RX2, "passes", "(Ljava/lang/String;)Z"⟩
def dkwX2_passes_1 : List UInt8 := [182, 0, 74, 153, 0, 5, 4, 172, 42, 28, 181, 0, 36, 3, 172]
abbrev dktX2_passes_1 : List UInt8 := dkwX2_passes_1 ++ []
def dkwX2_passes_0 : List UInt8 := [42, 180, 0, 36, 61, 42, 182, 0, 43, 184, 0, 51, 154, 0, 5, 3, 172, 42, 182, 0, 70, 43]
abbrev dktX2_passes_0 : List UInt8 := dkwX2_passes_0 ++ dktX2_passes_1
theorem dksX2_passes_0 : cX2_passes.data.toList.drop 0 = dktX2_passes_0 := by decide +kernel
theorem dksX2_passes_1 : cX2_passes.data.toList.drop 22 = dktX2_passes_1 := dk_seg dksX2_passes_0 22 rfl rfl
theorem dX2_passes_0 : decode cX2_passes 0 = .ok (.aload_n 0, 1) := dk_42 (dk_at dksX2_passes_0 0 rfl rfl)
theorem dX2_passes_1 : decode cX2_passes 1 = .ok (.getfield 36, 3) := dk_180 0 36 (dk_at dksX2_passes_0 1 rfl rfl)
theorem dX2_passes_4 : decode cX2_passes 4 = .ok (.istore_n 2, 1) := dk_61 (dk_at dksX2_passes_0 4 rfl rfl)
theorem dX2_passes_5 : decode cX2_passes 5 = .ok (.aload_n 0, 1) := dk_42 (dk_at dksX2_passes_0 5 rfl rfl)
theorem dX2_passes_6 : decode cX2_passes 6 = .ok (.invokevirtual 43, 3) := dk_182 0 43 (dk_at dksX2_passes_0 6 rfl rfl)
theorem dX2_passes_9 : decode cX2_passes 9 = .ok (.invokestatic 51, 3) := dk_184 0 51 (dk_at dksX2_passes_0 9 rfl rfl)
theorem dX2_passes_12 : decode cX2_passes 12 = .ok (.ifCond .ne 5, 3) := dk_154 0 5 (dk_at dksX2_passes_0 12 rfl rfl)
theorem dX2_passes_15 : decode cX2_passes 15 = .ok (.iconst 0, 1) := dk_3 (dk_at dksX2_passes_0 15 rfl rfl)
theorem dX2_passes_16 : decode cX2_passes 16 = .ok (.ireturn, 1) := dk_172 (dk_at dksX2_passes_0 16 rfl rfl)
theorem dX2_passes_17 : decode cX2_passes 17 = .ok (.aload_n 0, 1) := dk_42 (dk_at dksX2_passes_0 17 rfl rfl)
theorem dX2_passes_18 : decode cX2_passes 18 = .ok (.invokevirtual 70, 3) := dk_182 0 70 (dk_at dksX2_passes_0 18 rfl rfl)
theorem dX2_passes_21 : decode cX2_passes 21 = .ok (.aload_n 1, 1) := dk_43 (dk_at dksX2_passes_0 21 rfl rfl)
theorem dX2_passes_22 : decode cX2_passes 22 = .ok (.invokevirtual 74, 3) := dk_182 0 74 (dk_at dksX2_passes_1 0 rfl rfl)
theorem dX2_passes_25 : decode cX2_passes 25 = .ok (.ifCond .eq 5, 3) := dk_153 0 5 (dk_at dksX2_passes_1 3 rfl rfl)
theorem dX2_passes_28 : decode cX2_passes 28 = .ok (.iconst 1, 1) := dk_4 (dk_at dksX2_passes_1 6 rfl rfl)
theorem dX2_passes_29 : decode cX2_passes 29 = .ok (.ireturn, 1) := dk_172 (dk_at dksX2_passes_1 7 rfl rfl)
theorem dX2_passes_30 : decode cX2_passes 30 = .ok (.aload_n 0, 1) := dk_42 (dk_at dksX2_passes_1 8 rfl rfl)
theorem dX2_passes_31 : decode cX2_passes 31 = .ok (.iload_n 2, 1) := dk_28 (dk_at dksX2_passes_1 9 rfl rfl)
theorem dX2_passes_32 : decode cX2_passes 32 = .ok (.putfield 36, 3) := dk_181 0 36 (dk_at dksX2_passes_1 10 rfl rfl)
theorem dX2_passes_35 : decode cX2_passes 35 = .ok (.iconst 0, 1) := dk_3 (dk_at dksX2_passes_1 13 rfl rfl)
theorem dX2_passes_36 : decode cX2_passes 36 = .ok (.ireturn, 1) := dk_172 (dk_at dksX2_passes_1 14 rfl rfl)
abbrev cX2_sum : ByteArray := prog_16_method_21_code
def yX2_sum : MethodName := ⟨RX2, "sum", "()LMendedThings$Value;"⟩
def dkwX2_sum_3 : List UInt8 := [167, 255, 206, 43, 176]
abbrev dktX2_sum_3 : List UInt8 := dkwX2_sum_3 ++ []
def dkwX2_sum_2 : List UInt8 := [16, 45, 182, 0, 248, 153, 0, 16, 43, 16, 45, 42, 182, 0, 242, 182, 0, 245, 167, 255, 211, 3, 61]
abbrev dktX2_sum_2 : List UInt8 := dkwX2_sum_2 ++ dktX2_sum_3
def dkwX2_sum_1 : List UInt8 := [42, 16, 43, 182, 0, 248, 153, 0, 16, 43, 16, 43, 42, 182, 0, 242, 182, 0, 245, 167, 255, 233, 42]
abbrev dktX2_sum_1 : List UInt8 := dkwX2_sum_1 ++ dktX2_sum_2
def dkwX2_sum_0 : List UInt8 := [187, 0, 239, 89, 183, 0, 241, 76, 43, 16, 43, 42, 182, 0, 242, 182, 0, 245, 4, 61, 28, 153, 0, 52]
abbrev dktX2_sum_0 : List UInt8 := dkwX2_sum_0 ++ dktX2_sum_1
theorem dksX2_sum_0 : cX2_sum.data.toList.drop 0 = dktX2_sum_0 := by decide +kernel
theorem dksX2_sum_1 : cX2_sum.data.toList.drop 24 = dktX2_sum_1 := dk_seg dksX2_sum_0 24 rfl rfl
theorem dksX2_sum_2 : cX2_sum.data.toList.drop 47 = dktX2_sum_2 := dk_seg dksX2_sum_1 23 rfl rfl
theorem dksX2_sum_3 : cX2_sum.data.toList.drop 70 = dktX2_sum_3 := dk_seg dksX2_sum_2 23 rfl rfl
theorem dX2_sum_0 : decode cX2_sum 0 = .ok (.new 239, 3) := dk_187 0 239 (dk_at dksX2_sum_0 0 rfl rfl)
theorem dX2_sum_3 : decode cX2_sum 3 = .ok (.dup, 1) := dk_89 (dk_at dksX2_sum_0 3 rfl rfl)
theorem dX2_sum_4 : decode cX2_sum 4 = .ok (.invokespecial 241, 3) := dk_183 0 241 (dk_at dksX2_sum_0 4 rfl rfl)
theorem dX2_sum_7 : decode cX2_sum 7 = .ok (.astore_n 1, 1) := dk_76 (dk_at dksX2_sum_0 7 rfl rfl)
theorem dX2_sum_8 : decode cX2_sum 8 = .ok (.aload_n 1, 1) := dk_43 (dk_at dksX2_sum_0 8 rfl rfl)
theorem dX2_sum_9 : decode cX2_sum 9 = .ok (.bipush 43, 2) := dk_16 43 (dk_at dksX2_sum_0 9 rfl rfl)
theorem dX2_sum_11 : decode cX2_sum 11 = .ok (.aload_n 0, 1) := dk_42 (dk_at dksX2_sum_0 11 rfl rfl)
theorem dX2_sum_12 : decode cX2_sum 12 = .ok (.invokevirtual 242, 3) := dk_182 0 242 (dk_at dksX2_sum_0 12 rfl rfl)
theorem dX2_sum_15 : decode cX2_sum 15 = .ok (.invokevirtual 245, 3) := dk_182 0 245 (dk_at dksX2_sum_0 15 rfl rfl)
theorem dX2_sum_18 : decode cX2_sum 18 = .ok (.iconst 1, 1) := dk_4 (dk_at dksX2_sum_0 18 rfl rfl)
theorem dX2_sum_19 : decode cX2_sum 19 = .ok (.istore_n 2, 1) := dk_61 (dk_at dksX2_sum_0 19 rfl rfl)
theorem dX2_sum_20 : decode cX2_sum 20 = .ok (.iload_n 2, 1) := dk_28 (dk_at dksX2_sum_0 20 rfl rfl)
theorem dX2_sum_21 : decode cX2_sum 21 = .ok (.ifCond .eq 52, 3) := dk_153 0 52 (dk_at dksX2_sum_0 21 rfl rfl)
theorem dX2_sum_24 : decode cX2_sum 24 = .ok (.aload_n 0, 1) := dk_42 (dk_at dksX2_sum_1 0 rfl rfl)
theorem dX2_sum_25 : decode cX2_sum 25 = .ok (.bipush 43, 2) := dk_16 43 (dk_at dksX2_sum_1 1 rfl rfl)
theorem dX2_sum_27 : decode cX2_sum 27 = .ok (.invokevirtual 248, 3) := dk_182 0 248 (dk_at dksX2_sum_1 3 rfl rfl)
theorem dX2_sum_30 : decode cX2_sum 30 = .ok (.ifCond .eq 16, 3) := dk_153 0 16 (dk_at dksX2_sum_1 6 rfl rfl)
theorem dX2_sum_33 : decode cX2_sum 33 = .ok (.aload_n 1, 1) := dk_43 (dk_at dksX2_sum_1 9 rfl rfl)
theorem dX2_sum_34 : decode cX2_sum 34 = .ok (.bipush 43, 2) := dk_16 43 (dk_at dksX2_sum_1 10 rfl rfl)
theorem dX2_sum_36 : decode cX2_sum 36 = .ok (.aload_n 0, 1) := dk_42 (dk_at dksX2_sum_1 12 rfl rfl)
theorem dX2_sum_37 : decode cX2_sum 37 = .ok (.invokevirtual 242, 3) := dk_182 0 242 (dk_at dksX2_sum_1 13 rfl rfl)
theorem dX2_sum_40 : decode cX2_sum 40 = .ok (.invokevirtual 245, 3) := dk_182 0 245 (dk_at dksX2_sum_1 16 rfl rfl)
theorem dX2_sum_43 : decode cX2_sum 43 = .ok (.goto (-23), 3) := dk_167 255 233 (dk_at dksX2_sum_1 19 rfl rfl)
theorem dX2_sum_46 : decode cX2_sum 46 = .ok (.aload_n 0, 1) := dk_42 (dk_at dksX2_sum_1 22 rfl rfl)
theorem dX2_sum_47 : decode cX2_sum 47 = .ok (.bipush 45, 2) := dk_16 45 (dk_at dksX2_sum_2 0 rfl rfl)
theorem dX2_sum_49 : decode cX2_sum 49 = .ok (.invokevirtual 248, 3) := dk_182 0 248 (dk_at dksX2_sum_2 2 rfl rfl)
theorem dX2_sum_52 : decode cX2_sum 52 = .ok (.ifCond .eq 16, 3) := dk_153 0 16 (dk_at dksX2_sum_2 5 rfl rfl)
theorem dX2_sum_55 : decode cX2_sum 55 = .ok (.aload_n 1, 1) := dk_43 (dk_at dksX2_sum_2 8 rfl rfl)
theorem dX2_sum_56 : decode cX2_sum 56 = .ok (.bipush 45, 2) := dk_16 45 (dk_at dksX2_sum_2 9 rfl rfl)
theorem dX2_sum_58 : decode cX2_sum 58 = .ok (.aload_n 0, 1) := dk_42 (dk_at dksX2_sum_2 11 rfl rfl)
theorem dX2_sum_59 : decode cX2_sum 59 = .ok (.invokevirtual 242, 3) := dk_182 0 242 (dk_at dksX2_sum_2 12 rfl rfl)
theorem dX2_sum_62 : decode cX2_sum 62 = .ok (.invokevirtual 245, 3) := dk_182 0 245 (dk_at dksX2_sum_2 15 rfl rfl)
theorem dX2_sum_65 : decode cX2_sum 65 = .ok (.goto (-45), 3) := dk_167 255 211 (dk_at dksX2_sum_2 18 rfl rfl)
theorem dX2_sum_68 : decode cX2_sum 68 = .ok (.iconst 0, 1) := dk_3 (dk_at dksX2_sum_2 21 rfl rfl)
theorem dX2_sum_69 : decode cX2_sum 69 = .ok (.istore_n 2, 1) := dk_61 (dk_at dksX2_sum_2 22 rfl rfl)
theorem dX2_sum_70 : decode cX2_sum 70 = .ok (.goto (-50), 3) := dk_167 255 206 (dk_at dksX2_sum_3 0 rfl rfl)
theorem dX2_sum_73 : decode cX2_sum 73 = .ok (.aload_n 1, 1) := dk_43 (dk_at dksX2_sum_3 3 rfl rfl)
theorem dX2_sum_74 : decode cX2_sum 74 = .ok (.areturn, 1) := dk_176 (dk_at dksX2_sum_3 4 rfl rfl)
abbrev cX2_product : ByteArray := prog_16_method_22_code
def yX2_product : MethodName := ⟨RX2, "product", "()LMendedThings$Value;"⟩
def dkwX2_product_3 : List UInt8 := [167, 255, 206, 43, 176]
abbrev dktX2_product_3 : List UInt8 := dkwX2_product_3 ++ []
def dkwX2_product_2 : List UInt8 := [16, 47, 182, 0, 248, 153, 0, 16, 43, 16, 47, 42, 182, 0, 250, 182, 0, 245, 167, 255, 211, 3, 61]
abbrev dktX2_product_2 : List UInt8 := dkwX2_product_2 ++ dktX2_product_3
def dkwX2_product_1 : List UInt8 := [42, 16, 42, 182, 0, 248, 153, 0, 16, 43, 16, 42, 42, 182, 0, 250, 182, 0, 245, 167, 255, 233, 42]
abbrev dktX2_product_1 : List UInt8 := dkwX2_product_1 ++ dktX2_product_2
def dkwX2_product_0 : List UInt8 := [187, 0, 239, 89, 183, 0, 241, 76, 43, 16, 42, 42, 182, 0, 250, 182, 0, 245, 4, 61, 28, 153, 0, 52]
abbrev dktX2_product_0 : List UInt8 := dkwX2_product_0 ++ dktX2_product_1
theorem dksX2_product_0 : cX2_product.data.toList.drop 0 = dktX2_product_0 := by decide +kernel
theorem dksX2_product_1 : cX2_product.data.toList.drop 24 = dktX2_product_1 := dk_seg dksX2_product_0 24 rfl rfl
theorem dksX2_product_2 : cX2_product.data.toList.drop 47 = dktX2_product_2 := dk_seg dksX2_product_1 23 rfl rfl
theorem dksX2_product_3 : cX2_product.data.toList.drop 70 = dktX2_product_3 := dk_seg dksX2_product_2 23 rfl rfl
theorem dX2_product_0 : decode cX2_product 0 = .ok (.new 239, 3) := dk_187 0 239 (dk_at dksX2_product_0 0 rfl rfl)
theorem dX2_product_3 : decode cX2_product 3 = .ok (.dup, 1) := dk_89 (dk_at dksX2_product_0 3 rfl rfl)
theorem dX2_product_4 : decode cX2_product 4 = .ok (.invokespecial 241, 3) := dk_183 0 241 (dk_at dksX2_product_0 4 rfl rfl)
theorem dX2_product_7 : decode cX2_product 7 = .ok (.astore_n 1, 1) := dk_76 (dk_at dksX2_product_0 7 rfl rfl)
theorem dX2_product_8 : decode cX2_product 8 = .ok (.aload_n 1, 1) := dk_43 (dk_at dksX2_product_0 8 rfl rfl)
theorem dX2_product_9 : decode cX2_product 9 = .ok (.bipush 42, 2) := dk_16 42 (dk_at dksX2_product_0 9 rfl rfl)
theorem dX2_product_11 : decode cX2_product 11 = .ok (.aload_n 0, 1) := dk_42 (dk_at dksX2_product_0 11 rfl rfl)
theorem dX2_product_12 : decode cX2_product 12 = .ok (.invokevirtual 250, 3) := dk_182 0 250 (dk_at dksX2_product_0 12 rfl rfl)
theorem dX2_product_15 : decode cX2_product 15 = .ok (.invokevirtual 245, 3) := dk_182 0 245 (dk_at dksX2_product_0 15 rfl rfl)
theorem dX2_product_18 : decode cX2_product 18 = .ok (.iconst 1, 1) := dk_4 (dk_at dksX2_product_0 18 rfl rfl)
theorem dX2_product_19 : decode cX2_product 19 = .ok (.istore_n 2, 1) := dk_61 (dk_at dksX2_product_0 19 rfl rfl)
theorem dX2_product_20 : decode cX2_product 20 = .ok (.iload_n 2, 1) := dk_28 (dk_at dksX2_product_0 20 rfl rfl)
theorem dX2_product_21 : decode cX2_product 21 = .ok (.ifCond .eq 52, 3) := dk_153 0 52 (dk_at dksX2_product_0 21 rfl rfl)
theorem dX2_product_24 : decode cX2_product 24 = .ok (.aload_n 0, 1) := dk_42 (dk_at dksX2_product_1 0 rfl rfl)
theorem dX2_product_25 : decode cX2_product 25 = .ok (.bipush 42, 2) := dk_16 42 (dk_at dksX2_product_1 1 rfl rfl)
theorem dX2_product_27 : decode cX2_product 27 = .ok (.invokevirtual 248, 3) := dk_182 0 248 (dk_at dksX2_product_1 3 rfl rfl)
theorem dX2_product_30 : decode cX2_product 30 = .ok (.ifCond .eq 16, 3) := dk_153 0 16 (dk_at dksX2_product_1 6 rfl rfl)
theorem dX2_product_33 : decode cX2_product 33 = .ok (.aload_n 1, 1) := dk_43 (dk_at dksX2_product_1 9 rfl rfl)
theorem dX2_product_34 : decode cX2_product 34 = .ok (.bipush 42, 2) := dk_16 42 (dk_at dksX2_product_1 10 rfl rfl)
theorem dX2_product_36 : decode cX2_product 36 = .ok (.aload_n 0, 1) := dk_42 (dk_at dksX2_product_1 12 rfl rfl)
theorem dX2_product_37 : decode cX2_product 37 = .ok (.invokevirtual 250, 3) := dk_182 0 250 (dk_at dksX2_product_1 13 rfl rfl)
theorem dX2_product_40 : decode cX2_product 40 = .ok (.invokevirtual 245, 3) := dk_182 0 245 (dk_at dksX2_product_1 16 rfl rfl)
theorem dX2_product_43 : decode cX2_product 43 = .ok (.goto (-23), 3) := dk_167 255 233 (dk_at dksX2_product_1 19 rfl rfl)
theorem dX2_product_46 : decode cX2_product 46 = .ok (.aload_n 0, 1) := dk_42 (dk_at dksX2_product_1 22 rfl rfl)
theorem dX2_product_47 : decode cX2_product 47 = .ok (.bipush 47, 2) := dk_16 47 (dk_at dksX2_product_2 0 rfl rfl)
theorem dX2_product_49 : decode cX2_product 49 = .ok (.invokevirtual 248, 3) := dk_182 0 248 (dk_at dksX2_product_2 2 rfl rfl)
theorem dX2_product_52 : decode cX2_product 52 = .ok (.ifCond .eq 16, 3) := dk_153 0 16 (dk_at dksX2_product_2 5 rfl rfl)
theorem dX2_product_55 : decode cX2_product 55 = .ok (.aload_n 1, 1) := dk_43 (dk_at dksX2_product_2 8 rfl rfl)
theorem dX2_product_56 : decode cX2_product 56 = .ok (.bipush 47, 2) := dk_16 47 (dk_at dksX2_product_2 9 rfl rfl)
theorem dX2_product_58 : decode cX2_product 58 = .ok (.aload_n 0, 1) := dk_42 (dk_at dksX2_product_2 11 rfl rfl)
theorem dX2_product_59 : decode cX2_product 59 = .ok (.invokevirtual 250, 3) := dk_182 0 250 (dk_at dksX2_product_2 12 rfl rfl)
theorem dX2_product_62 : decode cX2_product 62 = .ok (.invokevirtual 245, 3) := dk_182 0 245 (dk_at dksX2_product_2 15 rfl rfl)
theorem dX2_product_65 : decode cX2_product 65 = .ok (.goto (-45), 3) := dk_167 255 211 (dk_at dksX2_product_2 18 rfl rfl)
theorem dX2_product_68 : decode cX2_product 68 = .ok (.iconst 0, 1) := dk_3 (dk_at dksX2_product_2 21 rfl rfl)
theorem dX2_product_69 : decode cX2_product 69 = .ok (.istore_n 2, 1) := dk_61 (dk_at dksX2_product_2 22 rfl rfl)
theorem dX2_product_70 : decode cX2_product 70 = .ok (.goto (-50), 3) := dk_167 255 206 (dk_at dksX2_product_3 0 rfl rfl)
theorem dX2_product_73 : decode cX2_product 73 = .ok (.aload_n 1, 1) := dk_43 (dk_at dksX2_product_3 3 rfl rfl)
theorem dX2_product_74 : decode cX2_product 74 = .ok (.areturn, 1) := dk_176 (dk_at dksX2_product_3 4 rfl rfl)
abbrev cX2_atom : ByteArray := prog_16_method_25_code
def yX2_atom : MethodName := ⟨RX2, "atom", "()LMendedThings$Value;"⟩
def dkwX2_atom_7 : List UInt8 := [182, 1, 5, 176]
abbrev dktX2_atom_7 : List UInt8 := dkwX2_atom_7 ++ []
def dkwX2_atom_6 : List UInt8 := [180, 0, 61, 182, 0, 47, 191, 42, 43, 19, 1, 31, 182, 0, 74, 153, 0, 7, 4, 167, 0, 4, 5]
abbrev dktX2_atom_6 : List UInt8 := dkwX2_atom_6 ++ dktX2_atom_7
def dkwX2_atom_5 : List UInt8 := [19, 1, 31, 182, 0, 74, 154, 0, 23, 43, 19, 1, 33, 182, 0, 74, 154, 0, 13, 42, 4, 42]
abbrev dktX2_atom_5 : List UInt8 := dkwX2_atom_5 ++ dktX2_atom_6
def dkwX2_atom_4 : List UInt8 := [178, 1, 25, 184, 0, 82, 167, 0, 4, 2, 61, 28, 2, 159, 0, 9, 42, 28, 182, 1, 28, 176, 43]
abbrev dktX2_atom_4 : List UInt8 := dkwX2_atom_4 ++ dktX2_atom_5
def dkwX2_atom_3 : List UInt8 := [153, 0, 12, 187, 1, 21, 89, 28, 183, 1, 23, 176, 42, 180, 0, 189, 17, 3, 127, 160, 0, 13, 43]
abbrev dktX2_atom_3 : List UInt8 := dkwX2_atom_3 ++ dktX2_atom_4
def dkwX2_atom_2 : List UInt8 := [76, 43, 178, 1, 14, 184, 0, 82, 61, 28, 2, 159, 0, 23, 42, 180, 0, 189, 28, 184, 1, 17]
abbrev dktX2_atom_2 : List UInt8 := dkwX2_atom_2 ++ dktX2_atom_3
def dkwX2_atom_1 : List UInt8 := [153, 0, 20, 187, 1, 9, 89, 42, 3, 17, 39, 15, 182, 0, 96, 133, 183, 1, 11, 176, 42, 182, 0, 70]
abbrev dktX2_atom_1 : List UInt8 := dkwX2_atom_1 ++ dktX2_atom_2
def dkwX2_atom_0 : List UInt8 := [42, 182, 0, 43, 16, 40, 160, 0, 9, 42, 3, 182, 1, 5, 176, 42, 182, 0, 43, 184, 0, 55]
abbrev dktX2_atom_0 : List UInt8 := dkwX2_atom_0 ++ dktX2_atom_1
theorem dksX2_atom_0 : cX2_atom.data.toList.drop 0 = dktX2_atom_0 := by decide +kernel
theorem dksX2_atom_1 : cX2_atom.data.toList.drop 22 = dktX2_atom_1 := dk_seg dksX2_atom_0 22 rfl rfl
theorem dksX2_atom_2 : cX2_atom.data.toList.drop 46 = dktX2_atom_2 := dk_seg dksX2_atom_1 24 rfl rfl
theorem dksX2_atom_3 : cX2_atom.data.toList.drop 68 = dktX2_atom_3 := dk_seg dksX2_atom_2 22 rfl rfl
theorem dksX2_atom_4 : cX2_atom.data.toList.drop 91 = dktX2_atom_4 := dk_seg dksX2_atom_3 23 rfl rfl
theorem dksX2_atom_5 : cX2_atom.data.toList.drop 114 = dktX2_atom_5 := dk_seg dksX2_atom_4 23 rfl rfl
theorem dksX2_atom_6 : cX2_atom.data.toList.drop 136 = dktX2_atom_6 := dk_seg dksX2_atom_5 22 rfl rfl
theorem dksX2_atom_7 : cX2_atom.data.toList.drop 159 = dktX2_atom_7 := dk_seg dksX2_atom_6 23 rfl rfl
theorem dX2_atom_0 : decode cX2_atom 0 = .ok (.aload_n 0, 1) := dk_42 (dk_at dksX2_atom_0 0 rfl rfl)
theorem dX2_atom_1 : decode cX2_atom 1 = .ok (.invokevirtual 43, 3) := dk_182 0 43 (dk_at dksX2_atom_0 1 rfl rfl)
theorem dX2_atom_4 : decode cX2_atom 4 = .ok (.bipush 40, 2) := dk_16 40 (dk_at dksX2_atom_0 4 rfl rfl)
theorem dX2_atom_6 : decode cX2_atom 6 = .ok (.if_icmp .ne 9, 3) := dk_160 0 9 (dk_at dksX2_atom_0 6 rfl rfl)
theorem dX2_atom_9 : decode cX2_atom 9 = .ok (.aload_n 0, 1) := dk_42 (dk_at dksX2_atom_0 9 rfl rfl)
theorem dX2_atom_10 : decode cX2_atom 10 = .ok (.iconst 0, 1) := dk_3 (dk_at dksX2_atom_0 10 rfl rfl)
theorem dX2_atom_11 : decode cX2_atom 11 = .ok (.invokevirtual 261, 3) := dk_182 1 5 (dk_at dksX2_atom_0 11 rfl rfl)
theorem dX2_atom_14 : decode cX2_atom 14 = .ok (.areturn, 1) := dk_176 (dk_at dksX2_atom_0 14 rfl rfl)
theorem dX2_atom_15 : decode cX2_atom 15 = .ok (.aload_n 0, 1) := dk_42 (dk_at dksX2_atom_0 15 rfl rfl)
theorem dX2_atom_16 : decode cX2_atom 16 = .ok (.invokevirtual 43, 3) := dk_182 0 43 (dk_at dksX2_atom_0 16 rfl rfl)
theorem dX2_atom_19 : decode cX2_atom 19 = .ok (.invokestatic 55, 3) := dk_184 0 55 (dk_at dksX2_atom_0 19 rfl rfl)
theorem dX2_atom_22 : decode cX2_atom 22 = .ok (.ifCond .eq 20, 3) := dk_153 0 20 (dk_at dksX2_atom_1 0 rfl rfl)
theorem dX2_atom_25 : decode cX2_atom 25 = .ok (.new 265, 3) := dk_187 1 9 (dk_at dksX2_atom_1 3 rfl rfl)
theorem dX2_atom_28 : decode cX2_atom 28 = .ok (.dup, 1) := dk_89 (dk_at dksX2_atom_1 6 rfl rfl)
theorem dX2_atom_29 : decode cX2_atom 29 = .ok (.aload_n 0, 1) := dk_42 (dk_at dksX2_atom_1 7 rfl rfl)
theorem dX2_atom_30 : decode cX2_atom 30 = .ok (.iconst 0, 1) := dk_3 (dk_at dksX2_atom_1 8 rfl rfl)
theorem dX2_atom_31 : decode cX2_atom 31 = .ok (.sipush 9999, 3) := dk_17 39 15 (dk_at dksX2_atom_1 9 rfl rfl)
theorem dX2_atom_34 : decode cX2_atom 34 = .ok (.invokevirtual 96, 3) := dk_182 0 96 (dk_at dksX2_atom_1 12 rfl rfl)
theorem dX2_atom_37 : decode cX2_atom 37 = .ok (.i2l, 1) := dk_133 (dk_at dksX2_atom_1 15 rfl rfl)
theorem dX2_atom_38 : decode cX2_atom 38 = .ok (.invokespecial 267, 3) := dk_183 1 11 (dk_at dksX2_atom_1 16 rfl rfl)
theorem dX2_atom_41 : decode cX2_atom 41 = .ok (.areturn, 1) := dk_176 (dk_at dksX2_atom_1 19 rfl rfl)
theorem dX2_atom_42 : decode cX2_atom 42 = .ok (.aload_n 0, 1) := dk_42 (dk_at dksX2_atom_1 20 rfl rfl)
theorem dX2_atom_43 : decode cX2_atom 43 = .ok (.invokevirtual 70, 3) := dk_182 0 70 (dk_at dksX2_atom_1 21 rfl rfl)
theorem dX2_atom_46 : decode cX2_atom 46 = .ok (.astore_n 1, 1) := dk_76 (dk_at dksX2_atom_2 0 rfl rfl)
theorem dX2_atom_47 : decode cX2_atom 47 = .ok (.aload_n 1, 1) := dk_43 (dk_at dksX2_atom_2 1 rfl rfl)
theorem dX2_atom_48 : decode cX2_atom 48 = .ok (.getstatic 270, 3) := dk_178 1 14 (dk_at dksX2_atom_2 2 rfl rfl)
theorem dX2_atom_51 : decode cX2_atom 51 = .ok (.invokestatic 82, 3) := dk_184 0 82 (dk_at dksX2_atom_2 5 rfl rfl)
theorem dX2_atom_54 : decode cX2_atom 54 = .ok (.istore_n 2, 1) := dk_61 (dk_at dksX2_atom_2 8 rfl rfl)
theorem dX2_atom_55 : decode cX2_atom 55 = .ok (.iload_n 2, 1) := dk_28 (dk_at dksX2_atom_2 9 rfl rfl)
theorem dX2_atom_56 : decode cX2_atom 56 = .ok (.iconst (-1), 1) := dk_2 (dk_at dksX2_atom_2 10 rfl rfl)
theorem dX2_atom_57 : decode cX2_atom 57 = .ok (.if_icmp .eq 23, 3) := dk_159 0 23 (dk_at dksX2_atom_2 11 rfl rfl)
theorem dX2_atom_60 : decode cX2_atom 60 = .ok (.aload_n 0, 1) := dk_42 (dk_at dksX2_atom_2 14 rfl rfl)
theorem dX2_atom_61 : decode cX2_atom 61 = .ok (.getfield 189, 3) := dk_180 0 189 (dk_at dksX2_atom_2 15 rfl rfl)
theorem dX2_atom_64 : decode cX2_atom 64 = .ok (.iload_n 2, 1) := dk_28 (dk_at dksX2_atom_2 18 rfl rfl)
theorem dX2_atom_65 : decode cX2_atom 65 = .ok (.invokestatic 273, 3) := dk_184 1 17 (dk_at dksX2_atom_2 19 rfl rfl)
theorem dX2_atom_68 : decode cX2_atom 68 = .ok (.ifCond .eq 12, 3) := dk_153 0 12 (dk_at dksX2_atom_3 0 rfl rfl)
theorem dX2_atom_71 : decode cX2_atom 71 = .ok (.new 277, 3) := dk_187 1 21 (dk_at dksX2_atom_3 3 rfl rfl)
theorem dX2_atom_74 : decode cX2_atom 74 = .ok (.dup, 1) := dk_89 (dk_at dksX2_atom_3 6 rfl rfl)
theorem dX2_atom_75 : decode cX2_atom 75 = .ok (.iload_n 2, 1) := dk_28 (dk_at dksX2_atom_3 7 rfl rfl)
theorem dX2_atom_76 : decode cX2_atom 76 = .ok (.invokespecial 279, 3) := dk_183 1 23 (dk_at dksX2_atom_3 8 rfl rfl)
theorem dX2_atom_79 : decode cX2_atom 79 = .ok (.areturn, 1) := dk_176 (dk_at dksX2_atom_3 11 rfl rfl)
theorem dX2_atom_80 : decode cX2_atom 80 = .ok (.aload_n 0, 1) := dk_42 (dk_at dksX2_atom_3 12 rfl rfl)
theorem dX2_atom_81 : decode cX2_atom 81 = .ok (.getfield 189, 3) := dk_180 0 189 (dk_at dksX2_atom_3 13 rfl rfl)
theorem dX2_atom_84 : decode cX2_atom 84 = .ok (.sipush 895, 3) := dk_17 3 127 (dk_at dksX2_atom_3 16 rfl rfl)
theorem dX2_atom_87 : decode cX2_atom 87 = .ok (.if_icmp .ne 13, 3) := dk_160 0 13 (dk_at dksX2_atom_3 19 rfl rfl)
theorem dX2_atom_90 : decode cX2_atom 90 = .ok (.aload_n 1, 1) := dk_43 (dk_at dksX2_atom_3 22 rfl rfl)
theorem dX2_atom_91 : decode cX2_atom 91 = .ok (.getstatic 281, 3) := dk_178 1 25 (dk_at dksX2_atom_4 0 rfl rfl)
theorem dX2_atom_94 : decode cX2_atom 94 = .ok (.invokestatic 82, 3) := dk_184 0 82 (dk_at dksX2_atom_4 3 rfl rfl)
theorem dX2_atom_97 : decode cX2_atom 97 = .ok (.goto 4, 3) := dk_167 0 4 (dk_at dksX2_atom_4 6 rfl rfl)
theorem dX2_atom_100 : decode cX2_atom 100 = .ok (.iconst (-1), 1) := dk_2 (dk_at dksX2_atom_4 9 rfl rfl)
theorem dX2_atom_101 : decode cX2_atom 101 = .ok (.istore_n 2, 1) := dk_61 (dk_at dksX2_atom_4 10 rfl rfl)
theorem dX2_atom_102 : decode cX2_atom 102 = .ok (.iload_n 2, 1) := dk_28 (dk_at dksX2_atom_4 11 rfl rfl)
theorem dX2_atom_103 : decode cX2_atom 103 = .ok (.iconst (-1), 1) := dk_2 (dk_at dksX2_atom_4 12 rfl rfl)
theorem dX2_atom_104 : decode cX2_atom 104 = .ok (.if_icmp .eq 9, 3) := dk_159 0 9 (dk_at dksX2_atom_4 13 rfl rfl)
theorem dX2_atom_107 : decode cX2_atom 107 = .ok (.aload_n 0, 1) := dk_42 (dk_at dksX2_atom_4 16 rfl rfl)
theorem dX2_atom_108 : decode cX2_atom 108 = .ok (.iload_n 2, 1) := dk_28 (dk_at dksX2_atom_4 17 rfl rfl)
theorem dX2_atom_109 : decode cX2_atom 109 = .ok (.invokevirtual 284, 3) := dk_182 1 28 (dk_at dksX2_atom_4 18 rfl rfl)
theorem dX2_atom_112 : decode cX2_atom 112 = .ok (.areturn, 1) := dk_176 (dk_at dksX2_atom_4 21 rfl rfl)
theorem dX2_atom_113 : decode cX2_atom 113 = .ok (.aload_n 1, 1) := dk_43 (dk_at dksX2_atom_4 22 rfl rfl)
theorem dX2_atom_114 : decode cX2_atom 114 = .ok (.ldc_w 287, 3) := dk_19 1 31 (dk_at dksX2_atom_5 0 rfl rfl)
theorem dX2_atom_117 : decode cX2_atom 117 = .ok (.invokevirtual 74, 3) := dk_182 0 74 (dk_at dksX2_atom_5 3 rfl rfl)
theorem dX2_atom_120 : decode cX2_atom 120 = .ok (.ifCond .ne 23, 3) := dk_154 0 23 (dk_at dksX2_atom_5 6 rfl rfl)
theorem dX2_atom_123 : decode cX2_atom 123 = .ok (.aload_n 1, 1) := dk_43 (dk_at dksX2_atom_5 9 rfl rfl)
theorem dX2_atom_124 : decode cX2_atom 124 = .ok (.ldc_w 289, 3) := dk_19 1 33 (dk_at dksX2_atom_5 10 rfl rfl)
theorem dX2_atom_127 : decode cX2_atom 127 = .ok (.invokevirtual 74, 3) := dk_182 0 74 (dk_at dksX2_atom_5 13 rfl rfl)
theorem dX2_atom_130 : decode cX2_atom 130 = .ok (.ifCond .ne 13, 3) := dk_154 0 13 (dk_at dksX2_atom_5 16 rfl rfl)
theorem dX2_atom_133 : decode cX2_atom 133 = .ok (.aload_n 0, 1) := dk_42 (dk_at dksX2_atom_5 19 rfl rfl)
theorem dX2_atom_134 : decode cX2_atom 134 = .ok (.iconst 1, 1) := dk_4 (dk_at dksX2_atom_5 20 rfl rfl)
theorem dX2_atom_135 : decode cX2_atom 135 = .ok (.aload_n 0, 1) := dk_42 (dk_at dksX2_atom_5 21 rfl rfl)
theorem dX2_atom_136 : decode cX2_atom 136 = .ok (.getfield 61, 3) := dk_180 0 61 (dk_at dksX2_atom_6 0 rfl rfl)
theorem dX2_atom_139 : decode cX2_atom 139 = .ok (.invokevirtual 47, 3) := dk_182 0 47 (dk_at dksX2_atom_6 3 rfl rfl)
theorem dX2_atom_142 : decode cX2_atom 142 = .ok (.athrow, 1) := dk_191 (dk_at dksX2_atom_6 6 rfl rfl)
theorem dX2_atom_143 : decode cX2_atom 143 = .ok (.aload_n 0, 1) := dk_42 (dk_at dksX2_atom_6 7 rfl rfl)
theorem dX2_atom_144 : decode cX2_atom 144 = .ok (.aload_n 1, 1) := dk_43 (dk_at dksX2_atom_6 8 rfl rfl)
theorem dX2_atom_145 : decode cX2_atom 145 = .ok (.ldc_w 287, 3) := dk_19 1 31 (dk_at dksX2_atom_6 9 rfl rfl)
theorem dX2_atom_148 : decode cX2_atom 148 = .ok (.invokevirtual 74, 3) := dk_182 0 74 (dk_at dksX2_atom_6 12 rfl rfl)
theorem dX2_atom_151 : decode cX2_atom 151 = .ok (.ifCond .eq 7, 3) := dk_153 0 7 (dk_at dksX2_atom_6 15 rfl rfl)
theorem dX2_atom_154 : decode cX2_atom 154 = .ok (.iconst 1, 1) := dk_4 (dk_at dksX2_atom_6 18 rfl rfl)
theorem dX2_atom_155 : decode cX2_atom 155 = .ok (.goto 4, 3) := dk_167 0 4 (dk_at dksX2_atom_6 19 rfl rfl)
theorem dX2_atom_158 : decode cX2_atom 158 = .ok (.iconst 2, 1) := dk_5 (dk_at dksX2_atom_6 22 rfl rfl)
theorem dX2_atom_159 : decode cX2_atom 159 = .ok (.invokevirtual 261, 3) := dk_182 1 5 (dk_at dksX2_atom_7 0 rfl rfl)
theorem dX2_atom_162 : decode cX2_atom 162 = .ok (.areturn, 1) := dk_176 (dk_at dksX2_atom_7 3 rfl rfl)
abbrev cX2_within : ByteArray := prog_16_method_24_code
def yX2_within : MethodName := ⟨RX2, "within", "(I)LMendedThings$Value;"⟩
def dkwX2_within_4 : List UInt8 := [176]
abbrev dktX2_within_4 : List UInt8 := dkwX2_within_4 ++ []
def dkwX2_within_3 : List UInt8 := [182, 0, 201, 183, 1, 2, 78, 42, 16, 41, 182, 0, 132, 42, 89, 180, 0, 114, 4, 100, 181, 0, 114, 45]
abbrev dktX2_within_3 : List UInt8 := dkwX2_within_3 ++ dktX2_within_4
def dkwX2_within_2 : List UInt8 := [42, 16, 44, 182, 0, 132, 187, 1, 0, 89, 27, 5, 160, 0, 7, 4, 167, 0, 4, 3, 44, 42]
abbrev dktX2_within_2 : List UInt8 := dkwX2_within_2 ++ dktX2_within_3
def dkwX2_within_1 : List UInt8 := [182, 0, 253, 42, 89, 180, 0, 36, 4, 96, 181, 0, 36, 42, 182, 0, 201, 77, 44, 78, 27, 158, 0, 32]
abbrev dktX2_within_1 : List UInt8 := dkwX2_within_1 ++ dktX2_within_2
def dkwX2_within_0 : List UInt8 := [42, 182, 0, 43, 16, 40, 159, 0, 13, 42, 4, 42, 180, 0, 36, 182, 0, 47, 191, 42, 42, 180, 0, 36]
abbrev dktX2_within_0 : List UInt8 := dkwX2_within_0 ++ dktX2_within_1
theorem dksX2_within_0 : cX2_within.data.toList.drop 0 = dktX2_within_0 := by decide +kernel
theorem dksX2_within_1 : cX2_within.data.toList.drop 24 = dktX2_within_1 := dk_seg dksX2_within_0 24 rfl rfl
theorem dksX2_within_2 : cX2_within.data.toList.drop 48 = dktX2_within_2 := dk_seg dksX2_within_1 24 rfl rfl
theorem dksX2_within_3 : cX2_within.data.toList.drop 70 = dktX2_within_3 := dk_seg dksX2_within_2 22 rfl rfl
theorem dksX2_within_4 : cX2_within.data.toList.drop 94 = dktX2_within_4 := dk_seg dksX2_within_3 24 rfl rfl
theorem dX2_within_0 : decode cX2_within 0 = .ok (.aload_n 0, 1) := dk_42 (dk_at dksX2_within_0 0 rfl rfl)
theorem dX2_within_1 : decode cX2_within 1 = .ok (.invokevirtual 43, 3) := dk_182 0 43 (dk_at dksX2_within_0 1 rfl rfl)
theorem dX2_within_4 : decode cX2_within 4 = .ok (.bipush 40, 2) := dk_16 40 (dk_at dksX2_within_0 4 rfl rfl)
theorem dX2_within_6 : decode cX2_within 6 = .ok (.if_icmp .eq 13, 3) := dk_159 0 13 (dk_at dksX2_within_0 6 rfl rfl)
theorem dX2_within_9 : decode cX2_within 9 = .ok (.aload_n 0, 1) := dk_42 (dk_at dksX2_within_0 9 rfl rfl)
theorem dX2_within_10 : decode cX2_within 10 = .ok (.iconst 1, 1) := dk_4 (dk_at dksX2_within_0 10 rfl rfl)
theorem dX2_within_11 : decode cX2_within 11 = .ok (.aload_n 0, 1) := dk_42 (dk_at dksX2_within_0 11 rfl rfl)
theorem dX2_within_12 : decode cX2_within 12 = .ok (.getfield 36, 3) := dk_180 0 36 (dk_at dksX2_within_0 12 rfl rfl)
theorem dX2_within_15 : decode cX2_within 15 = .ok (.invokevirtual 47, 3) := dk_182 0 47 (dk_at dksX2_within_0 15 rfl rfl)
theorem dX2_within_18 : decode cX2_within 18 = .ok (.athrow, 1) := dk_191 (dk_at dksX2_within_0 18 rfl rfl)
theorem dX2_within_19 : decode cX2_within 19 = .ok (.aload_n 0, 1) := dk_42 (dk_at dksX2_within_0 19 rfl rfl)
theorem dX2_within_20 : decode cX2_within 20 = .ok (.aload_n 0, 1) := dk_42 (dk_at dksX2_within_0 20 rfl rfl)
theorem dX2_within_21 : decode cX2_within 21 = .ok (.getfield 36, 3) := dk_180 0 36 (dk_at dksX2_within_0 21 rfl rfl)
theorem dX2_within_24 : decode cX2_within 24 = .ok (.invokevirtual 253, 3) := dk_182 0 253 (dk_at dksX2_within_1 0 rfl rfl)
theorem dX2_within_27 : decode cX2_within 27 = .ok (.aload_n 0, 1) := dk_42 (dk_at dksX2_within_1 3 rfl rfl)
theorem dX2_within_28 : decode cX2_within 28 = .ok (.dup, 1) := dk_89 (dk_at dksX2_within_1 4 rfl rfl)
theorem dX2_within_29 : decode cX2_within 29 = .ok (.getfield 36, 3) := dk_180 0 36 (dk_at dksX2_within_1 5 rfl rfl)
theorem dX2_within_32 : decode cX2_within 32 = .ok (.iconst 1, 1) := dk_4 (dk_at dksX2_within_1 8 rfl rfl)
theorem dX2_within_33 : decode cX2_within 33 = .ok (.iadd, 1) := dk_96 (dk_at dksX2_within_1 9 rfl rfl)
theorem dX2_within_34 : decode cX2_within 34 = .ok (.putfield 36, 3) := dk_181 0 36 (dk_at dksX2_within_1 10 rfl rfl)
theorem dX2_within_37 : decode cX2_within 37 = .ok (.aload_n 0, 1) := dk_42 (dk_at dksX2_within_1 13 rfl rfl)
theorem dX2_within_38 : decode cX2_within 38 = .ok (.invokevirtual 201, 3) := dk_182 0 201 (dk_at dksX2_within_1 14 rfl rfl)
theorem dX2_within_41 : decode cX2_within 41 = .ok (.astore_n 2, 1) := dk_77 (dk_at dksX2_within_1 17 rfl rfl)
theorem dX2_within_42 : decode cX2_within 42 = .ok (.aload_n 2, 1) := dk_44 (dk_at dksX2_within_1 18 rfl rfl)
theorem dX2_within_43 : decode cX2_within 43 = .ok (.astore_n 3, 1) := dk_78 (dk_at dksX2_within_1 19 rfl rfl)
theorem dX2_within_44 : decode cX2_within 44 = .ok (.iload_n 1, 1) := dk_27 (dk_at dksX2_within_1 20 rfl rfl)
theorem dX2_within_45 : decode cX2_within 45 = .ok (.ifCond .le 32, 3) := dk_158 0 32 (dk_at dksX2_within_1 21 rfl rfl)
theorem dX2_within_48 : decode cX2_within 48 = .ok (.aload_n 0, 1) := dk_42 (dk_at dksX2_within_2 0 rfl rfl)
theorem dX2_within_49 : decode cX2_within 49 = .ok (.bipush 44, 2) := dk_16 44 (dk_at dksX2_within_2 1 rfl rfl)
theorem dX2_within_51 : decode cX2_within 51 = .ok (.invokevirtual 132, 3) := dk_182 0 132 (dk_at dksX2_within_2 3 rfl rfl)
theorem dX2_within_54 : decode cX2_within 54 = .ok (.new 256, 3) := dk_187 1 0 (dk_at dksX2_within_2 6 rfl rfl)
theorem dX2_within_57 : decode cX2_within 57 = .ok (.dup, 1) := dk_89 (dk_at dksX2_within_2 9 rfl rfl)
theorem dX2_within_58 : decode cX2_within 58 = .ok (.iload_n 1, 1) := dk_27 (dk_at dksX2_within_2 10 rfl rfl)
theorem dX2_within_59 : decode cX2_within 59 = .ok (.iconst 2, 1) := dk_5 (dk_at dksX2_within_2 11 rfl rfl)
theorem dX2_within_60 : decode cX2_within 60 = .ok (.if_icmp .ne 7, 3) := dk_160 0 7 (dk_at dksX2_within_2 12 rfl rfl)
theorem dX2_within_63 : decode cX2_within 63 = .ok (.iconst 1, 1) := dk_4 (dk_at dksX2_within_2 15 rfl rfl)
theorem dX2_within_64 : decode cX2_within 64 = .ok (.goto 4, 3) := dk_167 0 4 (dk_at dksX2_within_2 16 rfl rfl)
theorem dX2_within_67 : decode cX2_within 67 = .ok (.iconst 0, 1) := dk_3 (dk_at dksX2_within_2 19 rfl rfl)
theorem dX2_within_68 : decode cX2_within 68 = .ok (.aload_n 2, 1) := dk_44 (dk_at dksX2_within_2 20 rfl rfl)
theorem dX2_within_69 : decode cX2_within 69 = .ok (.aload_n 0, 1) := dk_42 (dk_at dksX2_within_2 21 rfl rfl)
theorem dX2_within_70 : decode cX2_within 70 = .ok (.invokevirtual 201, 3) := dk_182 0 201 (dk_at dksX2_within_3 0 rfl rfl)
theorem dX2_within_73 : decode cX2_within 73 = .ok (.invokespecial 258, 3) := dk_183 1 2 (dk_at dksX2_within_3 3 rfl rfl)
theorem dX2_within_76 : decode cX2_within 76 = .ok (.astore_n 3, 1) := dk_78 (dk_at dksX2_within_3 6 rfl rfl)
theorem dX2_within_77 : decode cX2_within 77 = .ok (.aload_n 0, 1) := dk_42 (dk_at dksX2_within_3 7 rfl rfl)
theorem dX2_within_78 : decode cX2_within 78 = .ok (.bipush 41, 2) := dk_16 41 (dk_at dksX2_within_3 8 rfl rfl)
theorem dX2_within_80 : decode cX2_within 80 = .ok (.invokevirtual 132, 3) := dk_182 0 132 (dk_at dksX2_within_3 10 rfl rfl)
theorem dX2_within_83 : decode cX2_within 83 = .ok (.aload_n 0, 1) := dk_42 (dk_at dksX2_within_3 13 rfl rfl)
theorem dX2_within_84 : decode cX2_within 84 = .ok (.dup, 1) := dk_89 (dk_at dksX2_within_3 14 rfl rfl)
theorem dX2_within_85 : decode cX2_within 85 = .ok (.getfield 114, 3) := dk_180 0 114 (dk_at dksX2_within_3 15 rfl rfl)
theorem dX2_within_88 : decode cX2_within 88 = .ok (.iconst 1, 1) := dk_4 (dk_at dksX2_within_3 18 rfl rfl)
theorem dX2_within_89 : decode cX2_within 89 = .ok (.isub, 1) := dk_100 (dk_at dksX2_within_3 19 rfl rfl)
theorem dX2_within_90 : decode cX2_within 90 = .ok (.putfield 114, 3) := dk_181 0 114 (dk_at dksX2_within_3 20 rfl rfl)
theorem dX2_within_93 : decode cX2_within 93 = .ok (.aload_n 3, 1) := dk_45 (dk_at dksX2_within_3 23 rfl rfl)
theorem dX2_within_94 : decode cX2_within 94 = .ok (.areturn, 1) := dk_176 (dk_at dksX2_within_4 0 rfl rfl)
abbrev cX2_looked : ByteArray := prog_16_method_29_code
def yX2_looked : MethodName := ⟨RX2, "looked", "(I)LMendedThings$Value;"⟩
def dkwX2_looked_1 : List UInt8 := [77, 42, 89, 180, 0, 114, 4, 100, 181, 0, 114, 44, 176]
abbrev dktX2_looked_1 : List UInt8 := dkwX2_looked_1 ++ []
def dkwX2_looked_0 : List UInt8 := [42, 42, 180, 0, 61, 182, 0, 253, 187, 1, 73, 89, 42, 180, 0, 3, 27, 42, 182, 0, 250, 183, 1, 75]
abbrev dktX2_looked_0 : List UInt8 := dkwX2_looked_0 ++ dktX2_looked_1
theorem dksX2_looked_0 : cX2_looked.data.toList.drop 0 = dktX2_looked_0 := by decide +kernel
theorem dksX2_looked_1 : cX2_looked.data.toList.drop 24 = dktX2_looked_1 := dk_seg dksX2_looked_0 24 rfl rfl
theorem dX2_looked_0 : decode cX2_looked 0 = .ok (.aload_n 0, 1) := dk_42 (dk_at dksX2_looked_0 0 rfl rfl)
theorem dX2_looked_1 : decode cX2_looked 1 = .ok (.aload_n 0, 1) := dk_42 (dk_at dksX2_looked_0 1 rfl rfl)
theorem dX2_looked_2 : decode cX2_looked 2 = .ok (.getfield 61, 3) := dk_180 0 61 (dk_at dksX2_looked_0 2 rfl rfl)
theorem dX2_looked_5 : decode cX2_looked 5 = .ok (.invokevirtual 253, 3) := dk_182 0 253 (dk_at dksX2_looked_0 5 rfl rfl)
theorem dX2_looked_8 : decode cX2_looked 8 = .ok (.new 329, 3) := dk_187 1 73 (dk_at dksX2_looked_0 8 rfl rfl)
theorem dX2_looked_11 : decode cX2_looked 11 = .ok (.dup, 1) := dk_89 (dk_at dksX2_looked_0 11 rfl rfl)
theorem dX2_looked_12 : decode cX2_looked 12 = .ok (.aload_n 0, 1) := dk_42 (dk_at dksX2_looked_0 12 rfl rfl)
theorem dX2_looked_13 : decode cX2_looked 13 = .ok (.getfield 3, 3) := dk_180 0 3 (dk_at dksX2_looked_0 13 rfl rfl)
theorem dX2_looked_16 : decode cX2_looked 16 = .ok (.iload_n 1, 1) := dk_27 (dk_at dksX2_looked_0 16 rfl rfl)
theorem dX2_looked_17 : decode cX2_looked 17 = .ok (.aload_n 0, 1) := dk_42 (dk_at dksX2_looked_0 17 rfl rfl)
theorem dX2_looked_18 : decode cX2_looked 18 = .ok (.invokevirtual 250, 3) := dk_182 0 250 (dk_at dksX2_looked_0 18 rfl rfl)
theorem dX2_looked_21 : decode cX2_looked 21 = .ok (.invokespecial 331, 3) := dk_183 1 75 (dk_at dksX2_looked_0 21 rfl rfl)
theorem dX2_looked_24 : decode cX2_looked 24 = .ok (.astore_n 2, 1) := dk_77 (dk_at dksX2_looked_1 0 rfl rfl)
theorem dX2_looked_25 : decode cX2_looked 25 = .ok (.aload_n 0, 1) := dk_42 (dk_at dksX2_looked_1 1 rfl rfl)
theorem dX2_looked_26 : decode cX2_looked 26 = .ok (.dup, 1) := dk_89 (dk_at dksX2_looked_1 2 rfl rfl)
theorem dX2_looked_27 : decode cX2_looked 27 = .ok (.getfield 114, 3) := dk_180 0 114 (dk_at dksX2_looked_1 3 rfl rfl)
theorem dX2_looked_30 : decode cX2_looked 30 = .ok (.iconst 1, 1) := dk_4 (dk_at dksX2_looked_1 6 rfl rfl)
theorem dX2_looked_31 : decode cX2_looked 31 = .ok (.isub, 1) := dk_100 (dk_at dksX2_looked_1 7 rfl rfl)
theorem dX2_looked_32 : decode cX2_looked 32 = .ok (.putfield 114, 3) := dk_181 0 114 (dk_at dksX2_looked_1 8 rfl rfl)
theorem dX2_looked_35 : decode cX2_looked 35 = .ok (.aload_n 2, 1) := dk_44 (dk_at dksX2_looked_1 11 rfl rfl)
theorem dX2_looked_36 : decode cX2_looked 36 = .ok (.areturn, 1) := dk_176 (dk_at dksX2_looked_1 12 rfl rfl)
abbrev cX2_takes : ByteArray := prog_16_method_20_code
def yX2_takes : MethodName := ⟨RX2, "takes", "(I)Z"⟩
def dkwX2_takes_1 : List UInt8 := [167, 0, 4, 3, 96, 181, 0, 36, 28, 172]
abbrev dktX2_takes_1 : List UInt8 := dkwX2_takes_1 ++ []
def dkwX2_takes_0 : List UInt8 := [42, 182, 0, 43, 27, 160, 0, 7, 4, 167, 0, 4, 3, 61, 42, 89, 180, 0, 36, 28, 153, 0, 7, 4]
abbrev dktX2_takes_0 : List UInt8 := dkwX2_takes_0 ++ dktX2_takes_1
theorem dksX2_takes_0 : cX2_takes.data.toList.drop 0 = dktX2_takes_0 := by decide +kernel
theorem dksX2_takes_1 : cX2_takes.data.toList.drop 24 = dktX2_takes_1 := dk_seg dksX2_takes_0 24 rfl rfl
theorem dX2_takes_0 : decode cX2_takes 0 = .ok (.aload_n 0, 1) := dk_42 (dk_at dksX2_takes_0 0 rfl rfl)
theorem dX2_takes_1 : decode cX2_takes 1 = .ok (.invokevirtual 43, 3) := dk_182 0 43 (dk_at dksX2_takes_0 1 rfl rfl)
theorem dX2_takes_4 : decode cX2_takes 4 = .ok (.iload_n 1, 1) := dk_27 (dk_at dksX2_takes_0 4 rfl rfl)
theorem dX2_takes_5 : decode cX2_takes 5 = .ok (.if_icmp .ne 7, 3) := dk_160 0 7 (dk_at dksX2_takes_0 5 rfl rfl)
theorem dX2_takes_8 : decode cX2_takes 8 = .ok (.iconst 1, 1) := dk_4 (dk_at dksX2_takes_0 8 rfl rfl)
theorem dX2_takes_9 : decode cX2_takes 9 = .ok (.goto 4, 3) := dk_167 0 4 (dk_at dksX2_takes_0 9 rfl rfl)
theorem dX2_takes_12 : decode cX2_takes 12 = .ok (.iconst 0, 1) := dk_3 (dk_at dksX2_takes_0 12 rfl rfl)
theorem dX2_takes_13 : decode cX2_takes 13 = .ok (.istore_n 2, 1) := dk_61 (dk_at dksX2_takes_0 13 rfl rfl)
theorem dX2_takes_14 : decode cX2_takes 14 = .ok (.aload_n 0, 1) := dk_42 (dk_at dksX2_takes_0 14 rfl rfl)
theorem dX2_takes_15 : decode cX2_takes 15 = .ok (.dup, 1) := dk_89 (dk_at dksX2_takes_0 15 rfl rfl)
theorem dX2_takes_16 : decode cX2_takes 16 = .ok (.getfield 36, 3) := dk_180 0 36 (dk_at dksX2_takes_0 16 rfl rfl)
theorem dX2_takes_19 : decode cX2_takes 19 = .ok (.iload_n 2, 1) := dk_28 (dk_at dksX2_takes_0 19 rfl rfl)
theorem dX2_takes_20 : decode cX2_takes 20 = .ok (.ifCond .eq 7, 3) := dk_153 0 7 (dk_at dksX2_takes_0 20 rfl rfl)
theorem dX2_takes_23 : decode cX2_takes 23 = .ok (.iconst 1, 1) := dk_4 (dk_at dksX2_takes_0 23 rfl rfl)
theorem dX2_takes_24 : decode cX2_takes 24 = .ok (.goto 4, 3) := dk_167 0 4 (dk_at dksX2_takes_1 0 rfl rfl)
theorem dX2_takes_27 : decode cX2_takes 27 = .ok (.iconst 0, 1) := dk_3 (dk_at dksX2_takes_1 3 rfl rfl)
theorem dX2_takes_28 : decode cX2_takes 28 = .ok (.iadd, 1) := dk_96 (dk_at dksX2_takes_1 4 rfl rfl)
theorem dX2_takes_29 : decode cX2_takes 29 = .ok (.putfield 36, 3) := dk_181 0 36 (dk_at dksX2_takes_1 5 rfl rfl)
theorem dX2_takes_32 : decode cX2_takes 32 = .ok (.iload_n 2, 1) := dk_28 (dk_at dksX2_takes_1 8 rfl rfl)
theorem dX2_takes_33 : decode cX2_takes 33 = .ok (.ireturn, 1) := dk_172 (dk_at dksX2_takes_1 9 rfl rfl)
abbrev cX2_laws : ByteArray := prog_16_method_19_code
def yX2_laws : MethodName := ⟨RX2, "laws", "(Ljava/lang/String;I)V"⟩
def dkwX2_laws_13 : List UInt8 := [4, 28, 182, 0, 47, 191, 177]
abbrev dktX2_laws_13 : List UInt8 := dkwX2_laws_13 ++ []
def dkwX2_laws_12 : List UInt8 := [181, 0, 235, 167, 0, 27, 42, 180, 0, 103, 42, 3, 16, 100, 182, 0, 96, 181, 0, 237, 167, 0, 10, 42]
abbrev dktX2_laws_12 : List UInt8 := dkwX2_laws_12 ++ dktX2_laws_13
def dkwX2_laws_11 : List UInt8 := [181, 0, 233, 167, 0, 51, 42, 180, 0, 103, 42, 42, 180, 0, 103, 180, 0, 235, 28, 16, 63, 182, 0, 229]
abbrev dktX2_laws_11 : List UInt8 := dkwX2_laws_11 ++ dktX2_laws_12
def dkwX2_laws_10 : List UInt8 := [167, 0, 76, 42, 180, 0, 103, 42, 42, 180, 0, 103, 180, 0, 233, 28, 17, 0, 191, 182, 0, 229]
abbrev dktX2_laws_10 : List UInt8 := dkwX2_laws_10 ++ dktX2_laws_11
def dkwX2_laws_9 : List UInt8 := [42, 180, 0, 103, 42, 42, 180, 0, 103, 180, 0, 226, 28, 17, 0, 191, 182, 0, 229, 181, 0, 226]
abbrev dktX2_laws_9 : List UInt8 := dkwX2_laws_9 ++ dktX2_laws_10
def dkwX2_laws_8 : List UInt8 := [42, 180, 0, 103, 42, 42, 180, 0, 103, 180, 0, 224, 28, 16, 63, 182, 0, 220, 181, 0, 224, 167, 0, 101]
abbrev dktX2_laws_8 : List UInt8 := dkwX2_laws_8 ++ dktX2_laws_9
def dkwX2_laws_7 : List UInt8 := [42, 180, 0, 103, 42, 42, 180, 0, 103, 180, 0, 217, 28, 16, 127, 182, 0, 220, 181, 0, 217, 167, 0, 125]
abbrev dktX2_laws_7 : List UInt8 := dkwX2_laws_7 ++ dktX2_laws_8
def dkwX2_laws_6 : List UInt8 := [170, 0, 0, 0, 0, 0, 178, 0, 0, 0, 0, 0, 0, 0, 5, 0, 0, 0, 39, 0, 0, 0, 63, 0, 0, 0, 87, 0, 0, 0, 112, 0, 0, 0, 137, 0, 0, 0, 161]
abbrev dktX2_laws_6 : List UInt8 := dkwX2_laws_6 ++ dktX2_laws_7
def dkwX2_laws_5 : List UInt8 := [167, 0, 15, 45, 18, 215, 182, 0, 74, 153, 0, 6, 8, 54, 4, 21, 4]
abbrev dktX2_laws_5 : List UInt8 := dkwX2_laws_5 ++ dktX2_laws_6
def dkwX2_laws_4 : List UInt8 := [182, 0, 74, 153, 0, 36, 6, 54, 4, 167, 0, 30, 45, 18, 213, 182, 0, 74, 153, 0, 21, 7, 54, 4]
abbrev dktX2_laws_4 : List UInt8 := dkwX2_laws_4 ++ dktX2_laws_5
def dkwX2_laws_3 : List UInt8 := [4, 54, 4, 167, 0, 60, 45, 18, 209, 182, 0, 74, 153, 0, 51, 5, 54, 4, 167, 0, 45, 45, 18, 211]
abbrev dktX2_laws_3 : List UInt8 := dkwX2_laws_3 ++ dktX2_laws_4
def dkwX2_laws_2 : List UInt8 := [45, 18, 205, 182, 0, 74, 153, 0, 81, 3, 54, 4, 167, 0, 75, 45, 18, 207, 182, 0, 74, 153, 0, 66]
abbrev dktX2_laws_2 : List UInt8 := dkwX2_laws_2 ++ dktX2_laws_3
def dkwX2_laws_1 : List UInt8 := [171, 0, 0, 0, 0, 0, 146, 0, 0, 0, 6, 202, 205, 183, 93, 0, 0, 0, 59, 0, 1, 127, 214, 0, 0, 0, 134, 0, 47, 245, 186, 0, 0, 0, 104, 5, 203, 24, 88, 0, 0, 0, 74, 5, 206, 210, 176, 0, 0, 0, 119, 6, 144, 92, 204, 0, 0, 0, 89]
abbrev dktX2_laws_1 : List UInt8 := dkwX2_laws_1 ++ dktX2_laws_2
def dkwX2_laws_0 : List UInt8 := [43, 78, 2, 54, 4, 45, 182, 0, 136]
abbrev dktX2_laws_0 : List UInt8 := dkwX2_laws_0 ++ dktX2_laws_1
theorem dksX2_laws_0 : cX2_laws.data.toList.drop 0 = dktX2_laws_0 := by decide +kernel
theorem dksX2_laws_1 : cX2_laws.data.toList.drop 9 = dktX2_laws_1 := dk_seg dksX2_laws_0 9 rfl rfl
theorem dksX2_laws_2 : cX2_laws.data.toList.drop 68 = dktX2_laws_2 := dk_seg dksX2_laws_1 59 rfl rfl
theorem dksX2_laws_3 : cX2_laws.data.toList.drop 92 = dktX2_laws_3 := dk_seg dksX2_laws_2 24 rfl rfl
theorem dksX2_laws_4 : cX2_laws.data.toList.drop 116 = dktX2_laws_4 := dk_seg dksX2_laws_3 24 rfl rfl
theorem dksX2_laws_5 : cX2_laws.data.toList.drop 140 = dktX2_laws_5 := dk_seg dksX2_laws_4 24 rfl rfl
theorem dksX2_laws_6 : cX2_laws.data.toList.drop 157 = dktX2_laws_6 := dk_seg dksX2_laws_5 17 rfl rfl
theorem dksX2_laws_7 : cX2_laws.data.toList.drop 196 = dktX2_laws_7 := dk_seg dksX2_laws_6 39 rfl rfl
theorem dksX2_laws_8 : cX2_laws.data.toList.drop 220 = dktX2_laws_8 := dk_seg dksX2_laws_7 24 rfl rfl
theorem dksX2_laws_9 : cX2_laws.data.toList.drop 244 = dktX2_laws_9 := dk_seg dksX2_laws_8 24 rfl rfl
theorem dksX2_laws_10 : cX2_laws.data.toList.drop 266 = dktX2_laws_10 := dk_seg dksX2_laws_9 22 rfl rfl
theorem dksX2_laws_11 : cX2_laws.data.toList.drop 288 = dktX2_laws_11 := dk_seg dksX2_laws_10 22 rfl rfl
theorem dksX2_laws_12 : cX2_laws.data.toList.drop 312 = dktX2_laws_12 := dk_seg dksX2_laws_11 24 rfl rfl
theorem dksX2_laws_13 : cX2_laws.data.toList.drop 336 = dktX2_laws_13 := dk_seg dksX2_laws_12 24 rfl rfl
theorem dX2_laws_0 : decode cX2_laws 0 = .ok (.aload_n 1, 1) := dk_43 (dk_at dksX2_laws_0 0 rfl rfl)
theorem dX2_laws_1 : decode cX2_laws 1 = .ok (.astore_n 3, 1) := dk_78 (dk_at dksX2_laws_0 1 rfl rfl)
theorem dX2_laws_2 : decode cX2_laws 2 = .ok (.iconst (-1), 1) := dk_2 (dk_at dksX2_laws_0 2 rfl rfl)
theorem dX2_laws_3 : decode cX2_laws 3 = .ok (.istore 4, 2) := dk_54 4 (dk_at dksX2_laws_0 3 rfl rfl)
theorem dX2_laws_5 : decode cX2_laws 5 = .ok (.aload_n 3, 1) := dk_45 (dk_at dksX2_laws_0 5 rfl rfl)
theorem dX2_laws_6 : decode cX2_laws 6 = .ok (.invokevirtual 136, 3) := dk_182 0 136 (dk_at dksX2_laws_0 6 rfl rfl)
theorem dX2_laws_9 : decode cX2_laws 9 = .ok (.lookupswitch 146 #[(-892487843, 59), (98262, 134), (3143098, 104), (97196120, 74), (97440432, 119), (110124236, 89)], 59) := by decide +kernel
theorem dX2_laws_68 : decode cX2_laws 68 = .ok (.aload_n 3, 1) := dk_45 (dk_at dksX2_laws_2 0 rfl rfl)
theorem dX2_laws_69 : decode cX2_laws 69 = .ok (.ldc 205, 2) := dk_18 205 (dk_at dksX2_laws_2 1 rfl rfl)
theorem dX2_laws_71 : decode cX2_laws 71 = .ok (.invokevirtual 74, 3) := dk_182 0 74 (dk_at dksX2_laws_2 3 rfl rfl)
theorem dX2_laws_74 : decode cX2_laws 74 = .ok (.ifCond .eq 81, 3) := dk_153 0 81 (dk_at dksX2_laws_2 6 rfl rfl)
theorem dX2_laws_77 : decode cX2_laws 77 = .ok (.iconst 0, 1) := dk_3 (dk_at dksX2_laws_2 9 rfl rfl)
theorem dX2_laws_78 : decode cX2_laws 78 = .ok (.istore 4, 2) := dk_54 4 (dk_at dksX2_laws_2 10 rfl rfl)
theorem dX2_laws_80 : decode cX2_laws 80 = .ok (.goto 75, 3) := dk_167 0 75 (dk_at dksX2_laws_2 12 rfl rfl)
theorem dX2_laws_83 : decode cX2_laws 83 = .ok (.aload_n 3, 1) := dk_45 (dk_at dksX2_laws_2 15 rfl rfl)
theorem dX2_laws_84 : decode cX2_laws 84 = .ok (.ldc 207, 2) := dk_18 207 (dk_at dksX2_laws_2 16 rfl rfl)
theorem dX2_laws_86 : decode cX2_laws 86 = .ok (.invokevirtual 74, 3) := dk_182 0 74 (dk_at dksX2_laws_2 18 rfl rfl)
theorem dX2_laws_89 : decode cX2_laws 89 = .ok (.ifCond .eq 66, 3) := dk_153 0 66 (dk_at dksX2_laws_2 21 rfl rfl)
theorem dX2_laws_92 : decode cX2_laws 92 = .ok (.iconst 1, 1) := dk_4 (dk_at dksX2_laws_3 0 rfl rfl)
theorem dX2_laws_93 : decode cX2_laws 93 = .ok (.istore 4, 2) := dk_54 4 (dk_at dksX2_laws_3 1 rfl rfl)
theorem dX2_laws_95 : decode cX2_laws 95 = .ok (.goto 60, 3) := dk_167 0 60 (dk_at dksX2_laws_3 3 rfl rfl)
theorem dX2_laws_98 : decode cX2_laws 98 = .ok (.aload_n 3, 1) := dk_45 (dk_at dksX2_laws_3 6 rfl rfl)
theorem dX2_laws_99 : decode cX2_laws 99 = .ok (.ldc 209, 2) := dk_18 209 (dk_at dksX2_laws_3 7 rfl rfl)
theorem dX2_laws_101 : decode cX2_laws 101 = .ok (.invokevirtual 74, 3) := dk_182 0 74 (dk_at dksX2_laws_3 9 rfl rfl)
theorem dX2_laws_104 : decode cX2_laws 104 = .ok (.ifCond .eq 51, 3) := dk_153 0 51 (dk_at dksX2_laws_3 12 rfl rfl)
theorem dX2_laws_107 : decode cX2_laws 107 = .ok (.iconst 2, 1) := dk_5 (dk_at dksX2_laws_3 15 rfl rfl)
theorem dX2_laws_108 : decode cX2_laws 108 = .ok (.istore 4, 2) := dk_54 4 (dk_at dksX2_laws_3 16 rfl rfl)
theorem dX2_laws_110 : decode cX2_laws 110 = .ok (.goto 45, 3) := dk_167 0 45 (dk_at dksX2_laws_3 18 rfl rfl)
theorem dX2_laws_113 : decode cX2_laws 113 = .ok (.aload_n 3, 1) := dk_45 (dk_at dksX2_laws_3 21 rfl rfl)
theorem dX2_laws_114 : decode cX2_laws 114 = .ok (.ldc 211, 2) := dk_18 211 (dk_at dksX2_laws_3 22 rfl rfl)
theorem dX2_laws_116 : decode cX2_laws 116 = .ok (.invokevirtual 74, 3) := dk_182 0 74 (dk_at dksX2_laws_4 0 rfl rfl)
theorem dX2_laws_119 : decode cX2_laws 119 = .ok (.ifCond .eq 36, 3) := dk_153 0 36 (dk_at dksX2_laws_4 3 rfl rfl)
theorem dX2_laws_122 : decode cX2_laws 122 = .ok (.iconst 3, 1) := dk_6 (dk_at dksX2_laws_4 6 rfl rfl)
theorem dX2_laws_123 : decode cX2_laws 123 = .ok (.istore 4, 2) := dk_54 4 (dk_at dksX2_laws_4 7 rfl rfl)
theorem dX2_laws_125 : decode cX2_laws 125 = .ok (.goto 30, 3) := dk_167 0 30 (dk_at dksX2_laws_4 9 rfl rfl)
theorem dX2_laws_128 : decode cX2_laws 128 = .ok (.aload_n 3, 1) := dk_45 (dk_at dksX2_laws_4 12 rfl rfl)
theorem dX2_laws_129 : decode cX2_laws 129 = .ok (.ldc 213, 2) := dk_18 213 (dk_at dksX2_laws_4 13 rfl rfl)
theorem dX2_laws_131 : decode cX2_laws 131 = .ok (.invokevirtual 74, 3) := dk_182 0 74 (dk_at dksX2_laws_4 15 rfl rfl)
theorem dX2_laws_134 : decode cX2_laws 134 = .ok (.ifCond .eq 21, 3) := dk_153 0 21 (dk_at dksX2_laws_4 18 rfl rfl)
theorem dX2_laws_137 : decode cX2_laws 137 = .ok (.iconst 4, 1) := dk_7 (dk_at dksX2_laws_4 21 rfl rfl)
theorem dX2_laws_138 : decode cX2_laws 138 = .ok (.istore 4, 2) := dk_54 4 (dk_at dksX2_laws_4 22 rfl rfl)
theorem dX2_laws_140 : decode cX2_laws 140 = .ok (.goto 15, 3) := dk_167 0 15 (dk_at dksX2_laws_5 0 rfl rfl)
theorem dX2_laws_143 : decode cX2_laws 143 = .ok (.aload_n 3, 1) := dk_45 (dk_at dksX2_laws_5 3 rfl rfl)
theorem dX2_laws_144 : decode cX2_laws 144 = .ok (.ldc 215, 2) := dk_18 215 (dk_at dksX2_laws_5 4 rfl rfl)
theorem dX2_laws_146 : decode cX2_laws 146 = .ok (.invokevirtual 74, 3) := dk_182 0 74 (dk_at dksX2_laws_5 6 rfl rfl)
theorem dX2_laws_149 : decode cX2_laws 149 = .ok (.ifCond .eq 6, 3) := dk_153 0 6 (dk_at dksX2_laws_5 9 rfl rfl)
theorem dX2_laws_152 : decode cX2_laws 152 = .ok (.iconst 5, 1) := dk_8 (dk_at dksX2_laws_5 12 rfl rfl)
theorem dX2_laws_153 : decode cX2_laws 153 = .ok (.istore 4, 2) := dk_54 4 (dk_at dksX2_laws_5 13 rfl rfl)
theorem dX2_laws_155 : decode cX2_laws 155 = .ok (.iload 4, 2) := dk_21 4 (dk_at dksX2_laws_5 15 rfl rfl)
theorem dX2_laws_157 : decode cX2_laws 157 = .ok (.tableswitch 178 0 5 #[39, 63, 87, 112, 137, 161], 39) := by decide +kernel
theorem dX2_laws_196 : decode cX2_laws 196 = .ok (.aload_n 0, 1) := dk_42 (dk_at dksX2_laws_7 0 rfl rfl)
theorem dX2_laws_197 : decode cX2_laws 197 = .ok (.getfield 103, 3) := dk_180 0 103 (dk_at dksX2_laws_7 1 rfl rfl)
theorem dX2_laws_200 : decode cX2_laws 200 = .ok (.aload_n 0, 1) := dk_42 (dk_at dksX2_laws_7 4 rfl rfl)
theorem dX2_laws_201 : decode cX2_laws 201 = .ok (.aload_n 0, 1) := dk_42 (dk_at dksX2_laws_7 5 rfl rfl)
theorem dX2_laws_202 : decode cX2_laws 202 = .ok (.getfield 103, 3) := dk_180 0 103 (dk_at dksX2_laws_7 6 rfl rfl)
theorem dX2_laws_205 : decode cX2_laws 205 = .ok (.getfield 217, 3) := dk_180 0 217 (dk_at dksX2_laws_7 9 rfl rfl)
theorem dX2_laws_208 : decode cX2_laws 208 = .ok (.iload_n 2, 1) := dk_28 (dk_at dksX2_laws_7 12 rfl rfl)
theorem dX2_laws_209 : decode cX2_laws 209 = .ok (.bipush 127, 2) := dk_16 127 (dk_at dksX2_laws_7 13 rfl rfl)
theorem dX2_laws_211 : decode cX2_laws 211 = .ok (.invokevirtual 220, 3) := dk_182 0 220 (dk_at dksX2_laws_7 15 rfl rfl)
theorem dX2_laws_214 : decode cX2_laws 214 = .ok (.putfield 217, 3) := dk_181 0 217 (dk_at dksX2_laws_7 18 rfl rfl)
theorem dX2_laws_217 : decode cX2_laws 217 = .ok (.goto 125, 3) := dk_167 0 125 (dk_at dksX2_laws_7 21 rfl rfl)
theorem dX2_laws_220 : decode cX2_laws 220 = .ok (.aload_n 0, 1) := dk_42 (dk_at dksX2_laws_8 0 rfl rfl)
theorem dX2_laws_221 : decode cX2_laws 221 = .ok (.getfield 103, 3) := dk_180 0 103 (dk_at dksX2_laws_8 1 rfl rfl)
theorem dX2_laws_224 : decode cX2_laws 224 = .ok (.aload_n 0, 1) := dk_42 (dk_at dksX2_laws_8 4 rfl rfl)
theorem dX2_laws_225 : decode cX2_laws 225 = .ok (.aload_n 0, 1) := dk_42 (dk_at dksX2_laws_8 5 rfl rfl)
theorem dX2_laws_226 : decode cX2_laws 226 = .ok (.getfield 103, 3) := dk_180 0 103 (dk_at dksX2_laws_8 6 rfl rfl)
theorem dX2_laws_229 : decode cX2_laws 229 = .ok (.getfield 224, 3) := dk_180 0 224 (dk_at dksX2_laws_8 9 rfl rfl)
theorem dX2_laws_232 : decode cX2_laws 232 = .ok (.iload_n 2, 1) := dk_28 (dk_at dksX2_laws_8 12 rfl rfl)
theorem dX2_laws_233 : decode cX2_laws 233 = .ok (.bipush 63, 2) := dk_16 63 (dk_at dksX2_laws_8 13 rfl rfl)
theorem dX2_laws_235 : decode cX2_laws 235 = .ok (.invokevirtual 220, 3) := dk_182 0 220 (dk_at dksX2_laws_8 15 rfl rfl)
theorem dX2_laws_238 : decode cX2_laws 238 = .ok (.putfield 224, 3) := dk_181 0 224 (dk_at dksX2_laws_8 18 rfl rfl)
theorem dX2_laws_241 : decode cX2_laws 241 = .ok (.goto 101, 3) := dk_167 0 101 (dk_at dksX2_laws_8 21 rfl rfl)
theorem dX2_laws_244 : decode cX2_laws 244 = .ok (.aload_n 0, 1) := dk_42 (dk_at dksX2_laws_9 0 rfl rfl)
theorem dX2_laws_245 : decode cX2_laws 245 = .ok (.getfield 103, 3) := dk_180 0 103 (dk_at dksX2_laws_9 1 rfl rfl)
theorem dX2_laws_248 : decode cX2_laws 248 = .ok (.aload_n 0, 1) := dk_42 (dk_at dksX2_laws_9 4 rfl rfl)
theorem dX2_laws_249 : decode cX2_laws 249 = .ok (.aload_n 0, 1) := dk_42 (dk_at dksX2_laws_9 5 rfl rfl)
theorem dX2_laws_250 : decode cX2_laws 250 = .ok (.getfield 103, 3) := dk_180 0 103 (dk_at dksX2_laws_9 6 rfl rfl)
theorem dX2_laws_253 : decode cX2_laws 253 = .ok (.getfield 226, 3) := dk_180 0 226 (dk_at dksX2_laws_9 9 rfl rfl)
theorem dX2_laws_256 : decode cX2_laws 256 = .ok (.iload_n 2, 1) := dk_28 (dk_at dksX2_laws_9 12 rfl rfl)
theorem dX2_laws_257 : decode cX2_laws 257 = .ok (.sipush 191, 3) := dk_17 0 191 (dk_at dksX2_laws_9 13 rfl rfl)
theorem dX2_laws_260 : decode cX2_laws 260 = .ok (.invokevirtual 229, 3) := dk_182 0 229 (dk_at dksX2_laws_9 16 rfl rfl)
theorem dX2_laws_263 : decode cX2_laws 263 = .ok (.putfield 226, 3) := dk_181 0 226 (dk_at dksX2_laws_9 19 rfl rfl)
theorem dX2_laws_266 : decode cX2_laws 266 = .ok (.goto 76, 3) := dk_167 0 76 (dk_at dksX2_laws_10 0 rfl rfl)
theorem dX2_laws_269 : decode cX2_laws 269 = .ok (.aload_n 0, 1) := dk_42 (dk_at dksX2_laws_10 3 rfl rfl)
theorem dX2_laws_270 : decode cX2_laws 270 = .ok (.getfield 103, 3) := dk_180 0 103 (dk_at dksX2_laws_10 4 rfl rfl)
theorem dX2_laws_273 : decode cX2_laws 273 = .ok (.aload_n 0, 1) := dk_42 (dk_at dksX2_laws_10 7 rfl rfl)
theorem dX2_laws_274 : decode cX2_laws 274 = .ok (.aload_n 0, 1) := dk_42 (dk_at dksX2_laws_10 8 rfl rfl)
theorem dX2_laws_275 : decode cX2_laws 275 = .ok (.getfield 103, 3) := dk_180 0 103 (dk_at dksX2_laws_10 9 rfl rfl)
theorem dX2_laws_278 : decode cX2_laws 278 = .ok (.getfield 233, 3) := dk_180 0 233 (dk_at dksX2_laws_10 12 rfl rfl)
theorem dX2_laws_281 : decode cX2_laws 281 = .ok (.iload_n 2, 1) := dk_28 (dk_at dksX2_laws_10 15 rfl rfl)
theorem dX2_laws_282 : decode cX2_laws 282 = .ok (.sipush 191, 3) := dk_17 0 191 (dk_at dksX2_laws_10 16 rfl rfl)
theorem dX2_laws_285 : decode cX2_laws 285 = .ok (.invokevirtual 229, 3) := dk_182 0 229 (dk_at dksX2_laws_10 19 rfl rfl)
theorem dX2_laws_288 : decode cX2_laws 288 = .ok (.putfield 233, 3) := dk_181 0 233 (dk_at dksX2_laws_11 0 rfl rfl)
theorem dX2_laws_291 : decode cX2_laws 291 = .ok (.goto 51, 3) := dk_167 0 51 (dk_at dksX2_laws_11 3 rfl rfl)
theorem dX2_laws_294 : decode cX2_laws 294 = .ok (.aload_n 0, 1) := dk_42 (dk_at dksX2_laws_11 6 rfl rfl)
theorem dX2_laws_295 : decode cX2_laws 295 = .ok (.getfield 103, 3) := dk_180 0 103 (dk_at dksX2_laws_11 7 rfl rfl)
theorem dX2_laws_298 : decode cX2_laws 298 = .ok (.aload_n 0, 1) := dk_42 (dk_at dksX2_laws_11 10 rfl rfl)
theorem dX2_laws_299 : decode cX2_laws 299 = .ok (.aload_n 0, 1) := dk_42 (dk_at dksX2_laws_11 11 rfl rfl)
theorem dX2_laws_300 : decode cX2_laws 300 = .ok (.getfield 103, 3) := dk_180 0 103 (dk_at dksX2_laws_11 12 rfl rfl)
theorem dX2_laws_303 : decode cX2_laws 303 = .ok (.getfield 235, 3) := dk_180 0 235 (dk_at dksX2_laws_11 15 rfl rfl)
theorem dX2_laws_306 : decode cX2_laws 306 = .ok (.iload_n 2, 1) := dk_28 (dk_at dksX2_laws_11 18 rfl rfl)
theorem dX2_laws_307 : decode cX2_laws 307 = .ok (.bipush 63, 2) := dk_16 63 (dk_at dksX2_laws_11 19 rfl rfl)
theorem dX2_laws_309 : decode cX2_laws 309 = .ok (.invokevirtual 229, 3) := dk_182 0 229 (dk_at dksX2_laws_11 21 rfl rfl)
theorem dX2_laws_312 : decode cX2_laws 312 = .ok (.putfield 235, 3) := dk_181 0 235 (dk_at dksX2_laws_12 0 rfl rfl)
theorem dX2_laws_315 : decode cX2_laws 315 = .ok (.goto 27, 3) := dk_167 0 27 (dk_at dksX2_laws_12 3 rfl rfl)
theorem dX2_laws_318 : decode cX2_laws 318 = .ok (.aload_n 0, 1) := dk_42 (dk_at dksX2_laws_12 6 rfl rfl)
theorem dX2_laws_319 : decode cX2_laws 319 = .ok (.getfield 103, 3) := dk_180 0 103 (dk_at dksX2_laws_12 7 rfl rfl)
theorem dX2_laws_322 : decode cX2_laws 322 = .ok (.aload_n 0, 1) := dk_42 (dk_at dksX2_laws_12 10 rfl rfl)
theorem dX2_laws_323 : decode cX2_laws 323 = .ok (.iconst 0, 1) := dk_3 (dk_at dksX2_laws_12 11 rfl rfl)
theorem dX2_laws_324 : decode cX2_laws 324 = .ok (.bipush 100, 2) := dk_16 100 (dk_at dksX2_laws_12 12 rfl rfl)
theorem dX2_laws_326 : decode cX2_laws 326 = .ok (.invokevirtual 96, 3) := dk_182 0 96 (dk_at dksX2_laws_12 14 rfl rfl)
theorem dX2_laws_329 : decode cX2_laws 329 = .ok (.putfield 237, 3) := dk_181 0 237 (dk_at dksX2_laws_12 17 rfl rfl)
theorem dX2_laws_332 : decode cX2_laws 332 = .ok (.goto 10, 3) := dk_167 0 10 (dk_at dksX2_laws_12 20 rfl rfl)
theorem dX2_laws_335 : decode cX2_laws 335 = .ok (.aload_n 0, 1) := dk_42 (dk_at dksX2_laws_12 23 rfl rfl)
theorem dX2_laws_336 : decode cX2_laws 336 = .ok (.iconst 1, 1) := dk_4 (dk_at dksX2_laws_13 0 rfl rfl)
theorem dX2_laws_337 : decode cX2_laws 337 = .ok (.iload_n 2, 1) := dk_28 (dk_at dksX2_laws_13 1 rfl rfl)
theorem dX2_laws_338 : decode cX2_laws 338 = .ok (.invokevirtual 47, 3) := dk_182 0 47 (dk_at dksX2_laws_13 2 rfl rfl)
theorem dX2_laws_341 : decode cX2_laws 341 = .ok (.athrow, 1) := dk_191 (dk_at dksX2_laws_13 5 rfl rfl)
theorem dX2_laws_342 : decode cX2_laws 342 = .ok (.return_, 1) := dk_177 (dk_at dksX2_laws_13 6 rfl rfl)
abbrev cX2_testOnce : ByteArray := prog_16_method_18_code
def yX2_testOnce : MethodName := ⟨RX2, "testOnce", "(LMendedThings$Test;II)LMendedThings$Test;"⟩
def dkwX2_testOnce_0 : List UInt8 := [42, 43, 198, 0, 7, 4, 167, 0, 4, 3, 28, 182, 0, 120, 42, 29, 181, 0, 189, 42, 182, 0, 194, 176]
abbrev dktX2_testOnce_0 : List UInt8 := dkwX2_testOnce_0 ++ []
theorem dksX2_testOnce_0 : cX2_testOnce.data.toList.drop 0 = dktX2_testOnce_0 := by decide +kernel
theorem dX2_testOnce_0 : decode cX2_testOnce 0 = .ok (.aload_n 0, 1) := dk_42 (dk_at dksX2_testOnce_0 0 rfl rfl)
theorem dX2_testOnce_1 : decode cX2_testOnce 1 = .ok (.aload_n 1, 1) := dk_43 (dk_at dksX2_testOnce_0 1 rfl rfl)
theorem dX2_testOnce_2 : decode cX2_testOnce 2 = .ok (.ifnull 7, 3) := dk_198 0 7 (dk_at dksX2_testOnce_0 2 rfl rfl)
theorem dX2_testOnce_5 : decode cX2_testOnce 5 = .ok (.iconst 1, 1) := dk_4 (dk_at dksX2_testOnce_0 5 rfl rfl)
theorem dX2_testOnce_6 : decode cX2_testOnce 6 = .ok (.goto 4, 3) := dk_167 0 4 (dk_at dksX2_testOnce_0 6 rfl rfl)
theorem dX2_testOnce_9 : decode cX2_testOnce 9 = .ok (.iconst 0, 1) := dk_3 (dk_at dksX2_testOnce_0 9 rfl rfl)
theorem dX2_testOnce_10 : decode cX2_testOnce 10 = .ok (.iload_n 2, 1) := dk_28 (dk_at dksX2_testOnce_0 10 rfl rfl)
theorem dX2_testOnce_11 : decode cX2_testOnce 11 = .ok (.invokevirtual 120, 3) := dk_182 0 120 (dk_at dksX2_testOnce_0 11 rfl rfl)
theorem dX2_testOnce_14 : decode cX2_testOnce 14 = .ok (.aload_n 0, 1) := dk_42 (dk_at dksX2_testOnce_0 14 rfl rfl)
theorem dX2_testOnce_15 : decode cX2_testOnce 15 = .ok (.iload_n 3, 1) := dk_29 (dk_at dksX2_testOnce_0 15 rfl rfl)
theorem dX2_testOnce_16 : decode cX2_testOnce 16 = .ok (.putfield 189, 3) := dk_181 0 189 (dk_at dksX2_testOnce_0 16 rfl rfl)
theorem dX2_testOnce_19 : decode cX2_testOnce 19 = .ok (.aload_n 0, 1) := dk_42 (dk_at dksX2_testOnce_0 19 rfl rfl)
theorem dX2_testOnce_20 : decode cX2_testOnce 20 = .ok (.invokevirtual 194, 3) := dk_182 0 194 (dk_at dksX2_testOnce_0 20 rfl rfl)
theorem dX2_testOnce_23 : decode cX2_testOnce 23 = .ok (.areturn, 1) := dk_176 (dk_at dksX2_testOnce_0 23 rfl rfl)
abbrev cX2_sumOnce : ByteArray := prog_16_method_17_code
def yX2_sumOnce : MethodName := ⟨RX2, "sumOnce", "(LMendedThings$Value;II)LMendedThings$Value;"⟩
def dkwX2_sumOnce_0 : List UInt8 := [42, 43, 198, 0, 7, 4, 167, 0, 4, 3, 28, 182, 0, 120, 42, 29, 181, 0, 189, 42, 182, 0, 201, 176]
abbrev dktX2_sumOnce_0 : List UInt8 := dkwX2_sumOnce_0 ++ []
theorem dksX2_sumOnce_0 : cX2_sumOnce.data.toList.drop 0 = dktX2_sumOnce_0 := by decide +kernel
theorem dX2_sumOnce_0 : decode cX2_sumOnce 0 = .ok (.aload_n 0, 1) := dk_42 (dk_at dksX2_sumOnce_0 0 rfl rfl)
theorem dX2_sumOnce_1 : decode cX2_sumOnce 1 = .ok (.aload_n 1, 1) := dk_43 (dk_at dksX2_sumOnce_0 1 rfl rfl)
theorem dX2_sumOnce_2 : decode cX2_sumOnce 2 = .ok (.ifnull 7, 3) := dk_198 0 7 (dk_at dksX2_sumOnce_0 2 rfl rfl)
theorem dX2_sumOnce_5 : decode cX2_sumOnce 5 = .ok (.iconst 1, 1) := dk_4 (dk_at dksX2_sumOnce_0 5 rfl rfl)
theorem dX2_sumOnce_6 : decode cX2_sumOnce 6 = .ok (.goto 4, 3) := dk_167 0 4 (dk_at dksX2_sumOnce_0 6 rfl rfl)
theorem dX2_sumOnce_9 : decode cX2_sumOnce 9 = .ok (.iconst 0, 1) := dk_3 (dk_at dksX2_sumOnce_0 9 rfl rfl)
theorem dX2_sumOnce_10 : decode cX2_sumOnce 10 = .ok (.iload_n 2, 1) := dk_28 (dk_at dksX2_sumOnce_0 10 rfl rfl)
theorem dX2_sumOnce_11 : decode cX2_sumOnce 11 = .ok (.invokevirtual 120, 3) := dk_182 0 120 (dk_at dksX2_sumOnce_0 11 rfl rfl)
theorem dX2_sumOnce_14 : decode cX2_sumOnce 14 = .ok (.aload_n 0, 1) := dk_42 (dk_at dksX2_sumOnce_0 14 rfl rfl)
theorem dX2_sumOnce_15 : decode cX2_sumOnce 15 = .ok (.iload_n 3, 1) := dk_29 (dk_at dksX2_sumOnce_0 15 rfl rfl)
theorem dX2_sumOnce_16 : decode cX2_sumOnce 16 = .ok (.putfield 189, 3) := dk_181 0 189 (dk_at dksX2_sumOnce_0 16 rfl rfl)
theorem dX2_sumOnce_19 : decode cX2_sumOnce 19 = .ok (.aload_n 0, 1) := dk_42 (dk_at dksX2_sumOnce_0 19 rfl rfl)
theorem dX2_sumOnce_20 : decode cX2_sumOnce 20 = .ok (.invokevirtual 201, 3) := dk_182 0 201 (dk_at dksX2_sumOnce_0 20 rfl rfl)
theorem dX2_sumOnce_23 : decode cX2_sumOnce 23 = .ok (.areturn, 1) := dk_176 (dk_at dksX2_sumOnce_0 23 rfl rfl)
abbrev cX2_question : ByteArray := prog_16_method_30_code
def yX2_question : MethodName := ⟨RX2, "question", "(I)LMendedThings$Question;"⟩
def dkwX2_question_4 : List UInt8 := [42, 180, 0, 36, 182, 0, 47, 191, 45, 176]
abbrev dktX2_question_4 : List UInt8 := dkwX2_question_4 ++ []
def dkwX2_question_3 : List UInt8 := [187, 1, 81, 89, 28, 1, 42, 182, 0, 201, 183, 1, 83, 78, 42, 182, 0, 43, 2, 159, 0, 13, 42, 4]
abbrev dktX2_question_3 : List UInt8 := dkwX2_question_3 ++ dktX2_question_4
def dkwX2_question_2 : List UInt8 := [191, 28, 6, 162, 0, 19, 187, 1, 81, 89, 28, 42, 182, 0, 194, 1, 183, 1, 83, 167, 0, 16]
abbrev dktX2_question_2 : List UInt8 := dkwX2_question_2 ++ dktX2_question_3
def dkwX2_question_1 : List UInt8 := [182, 0, 70, 178, 1, 78, 184, 0, 82, 61, 28, 2, 160, 0, 13, 42, 4, 42, 180, 0, 61, 182, 0, 47]
abbrev dktX2_question_1 : List UInt8 := dkwX2_question_1 ++ dktX2_question_2
def dkwX2_question_0 : List UInt8 := [42, 27, 181, 0, 29, 42, 3, 181, 0, 36, 42, 3, 181, 0, 114, 42, 17, 3, 127, 181, 0, 189, 42]
abbrev dktX2_question_0 : List UInt8 := dkwX2_question_0 ++ dktX2_question_1
theorem dksX2_question_0 : cX2_question.data.toList.drop 0 = dktX2_question_0 := by decide +kernel
theorem dksX2_question_1 : cX2_question.data.toList.drop 23 = dktX2_question_1 := dk_seg dksX2_question_0 23 rfl rfl
theorem dksX2_question_2 : cX2_question.data.toList.drop 47 = dktX2_question_2 := dk_seg dksX2_question_1 24 rfl rfl
theorem dksX2_question_3 : cX2_question.data.toList.drop 69 = dktX2_question_3 := dk_seg dksX2_question_2 22 rfl rfl
theorem dksX2_question_4 : cX2_question.data.toList.drop 93 = dktX2_question_4 := dk_seg dksX2_question_3 24 rfl rfl
theorem dX2_question_0 : decode cX2_question 0 = .ok (.aload_n 0, 1) := dk_42 (dk_at dksX2_question_0 0 rfl rfl)
theorem dX2_question_1 : decode cX2_question 1 = .ok (.iload_n 1, 1) := dk_27 (dk_at dksX2_question_0 1 rfl rfl)
theorem dX2_question_2 : decode cX2_question 2 = .ok (.putfield 29, 3) := dk_181 0 29 (dk_at dksX2_question_0 2 rfl rfl)
theorem dX2_question_5 : decode cX2_question 5 = .ok (.aload_n 0, 1) := dk_42 (dk_at dksX2_question_0 5 rfl rfl)
theorem dX2_question_6 : decode cX2_question 6 = .ok (.iconst 0, 1) := dk_3 (dk_at dksX2_question_0 6 rfl rfl)
theorem dX2_question_7 : decode cX2_question 7 = .ok (.putfield 36, 3) := dk_181 0 36 (dk_at dksX2_question_0 7 rfl rfl)
theorem dX2_question_10 : decode cX2_question 10 = .ok (.aload_n 0, 1) := dk_42 (dk_at dksX2_question_0 10 rfl rfl)
theorem dX2_question_11 : decode cX2_question 11 = .ok (.iconst 0, 1) := dk_3 (dk_at dksX2_question_0 11 rfl rfl)
theorem dX2_question_12 : decode cX2_question 12 = .ok (.putfield 114, 3) := dk_181 0 114 (dk_at dksX2_question_0 12 rfl rfl)
theorem dX2_question_15 : decode cX2_question 15 = .ok (.aload_n 0, 1) := dk_42 (dk_at dksX2_question_0 15 rfl rfl)
theorem dX2_question_16 : decode cX2_question 16 = .ok (.sipush 895, 3) := dk_17 3 127 (dk_at dksX2_question_0 16 rfl rfl)
theorem dX2_question_19 : decode cX2_question 19 = .ok (.putfield 189, 3) := dk_181 0 189 (dk_at dksX2_question_0 19 rfl rfl)
theorem dX2_question_22 : decode cX2_question 22 = .ok (.aload_n 0, 1) := dk_42 (dk_at dksX2_question_0 22 rfl rfl)
theorem dX2_question_23 : decode cX2_question 23 = .ok (.invokevirtual 70, 3) := dk_182 0 70 (dk_at dksX2_question_1 0 rfl rfl)
theorem dX2_question_26 : decode cX2_question 26 = .ok (.getstatic 334, 3) := dk_178 1 78 (dk_at dksX2_question_1 3 rfl rfl)
theorem dX2_question_29 : decode cX2_question 29 = .ok (.invokestatic 82, 3) := dk_184 0 82 (dk_at dksX2_question_1 6 rfl rfl)
theorem dX2_question_32 : decode cX2_question 32 = .ok (.istore_n 2, 1) := dk_61 (dk_at dksX2_question_1 9 rfl rfl)
theorem dX2_question_33 : decode cX2_question 33 = .ok (.iload_n 2, 1) := dk_28 (dk_at dksX2_question_1 10 rfl rfl)
theorem dX2_question_34 : decode cX2_question 34 = .ok (.iconst (-1), 1) := dk_2 (dk_at dksX2_question_1 11 rfl rfl)
theorem dX2_question_35 : decode cX2_question 35 = .ok (.if_icmp .ne 13, 3) := dk_160 0 13 (dk_at dksX2_question_1 12 rfl rfl)
theorem dX2_question_38 : decode cX2_question 38 = .ok (.aload_n 0, 1) := dk_42 (dk_at dksX2_question_1 15 rfl rfl)
theorem dX2_question_39 : decode cX2_question 39 = .ok (.iconst 1, 1) := dk_4 (dk_at dksX2_question_1 16 rfl rfl)
theorem dX2_question_40 : decode cX2_question 40 = .ok (.aload_n 0, 1) := dk_42 (dk_at dksX2_question_1 17 rfl rfl)
theorem dX2_question_41 : decode cX2_question 41 = .ok (.getfield 61, 3) := dk_180 0 61 (dk_at dksX2_question_1 18 rfl rfl)
theorem dX2_question_44 : decode cX2_question 44 = .ok (.invokevirtual 47, 3) := dk_182 0 47 (dk_at dksX2_question_1 21 rfl rfl)
theorem dX2_question_47 : decode cX2_question 47 = .ok (.athrow, 1) := dk_191 (dk_at dksX2_question_2 0 rfl rfl)
theorem dX2_question_48 : decode cX2_question 48 = .ok (.iload_n 2, 1) := dk_28 (dk_at dksX2_question_2 1 rfl rfl)
theorem dX2_question_49 : decode cX2_question 49 = .ok (.iconst 3, 1) := dk_6 (dk_at dksX2_question_2 2 rfl rfl)
theorem dX2_question_50 : decode cX2_question 50 = .ok (.if_icmp .ge 19, 3) := dk_162 0 19 (dk_at dksX2_question_2 3 rfl rfl)
theorem dX2_question_53 : decode cX2_question 53 = .ok (.new 337, 3) := dk_187 1 81 (dk_at dksX2_question_2 6 rfl rfl)
theorem dX2_question_56 : decode cX2_question 56 = .ok (.dup, 1) := dk_89 (dk_at dksX2_question_2 9 rfl rfl)
theorem dX2_question_57 : decode cX2_question 57 = .ok (.iload_n 2, 1) := dk_28 (dk_at dksX2_question_2 10 rfl rfl)
theorem dX2_question_58 : decode cX2_question 58 = .ok (.aload_n 0, 1) := dk_42 (dk_at dksX2_question_2 11 rfl rfl)
theorem dX2_question_59 : decode cX2_question 59 = .ok (.invokevirtual 194, 3) := dk_182 0 194 (dk_at dksX2_question_2 12 rfl rfl)
theorem dX2_question_62 : decode cX2_question 62 = .ok (.aconst_null, 1) := dk_1 (dk_at dksX2_question_2 15 rfl rfl)
theorem dX2_question_63 : decode cX2_question 63 = .ok (.invokespecial 339, 3) := dk_183 1 83 (dk_at dksX2_question_2 16 rfl rfl)
theorem dX2_question_66 : decode cX2_question 66 = .ok (.goto 16, 3) := dk_167 0 16 (dk_at dksX2_question_2 19 rfl rfl)
theorem dX2_question_69 : decode cX2_question 69 = .ok (.new 337, 3) := dk_187 1 81 (dk_at dksX2_question_3 0 rfl rfl)
theorem dX2_question_72 : decode cX2_question 72 = .ok (.dup, 1) := dk_89 (dk_at dksX2_question_3 3 rfl rfl)
theorem dX2_question_73 : decode cX2_question 73 = .ok (.iload_n 2, 1) := dk_28 (dk_at dksX2_question_3 4 rfl rfl)
theorem dX2_question_74 : decode cX2_question 74 = .ok (.aconst_null, 1) := dk_1 (dk_at dksX2_question_3 5 rfl rfl)
theorem dX2_question_75 : decode cX2_question 75 = .ok (.aload_n 0, 1) := dk_42 (dk_at dksX2_question_3 6 rfl rfl)
theorem dX2_question_76 : decode cX2_question 76 = .ok (.invokevirtual 201, 3) := dk_182 0 201 (dk_at dksX2_question_3 7 rfl rfl)
theorem dX2_question_79 : decode cX2_question 79 = .ok (.invokespecial 339, 3) := dk_183 1 83 (dk_at dksX2_question_3 10 rfl rfl)
theorem dX2_question_82 : decode cX2_question 82 = .ok (.astore_n 3, 1) := dk_78 (dk_at dksX2_question_3 13 rfl rfl)
theorem dX2_question_83 : decode cX2_question 83 = .ok (.aload_n 0, 1) := dk_42 (dk_at dksX2_question_3 14 rfl rfl)
theorem dX2_question_84 : decode cX2_question 84 = .ok (.invokevirtual 43, 3) := dk_182 0 43 (dk_at dksX2_question_3 15 rfl rfl)
theorem dX2_question_87 : decode cX2_question 87 = .ok (.iconst (-1), 1) := dk_2 (dk_at dksX2_question_3 18 rfl rfl)
theorem dX2_question_88 : decode cX2_question 88 = .ok (.if_icmp .eq 13, 3) := dk_159 0 13 (dk_at dksX2_question_3 19 rfl rfl)
theorem dX2_question_91 : decode cX2_question 91 = .ok (.aload_n 0, 1) := dk_42 (dk_at dksX2_question_3 22 rfl rfl)
theorem dX2_question_92 : decode cX2_question 92 = .ok (.iconst 1, 1) := dk_4 (dk_at dksX2_question_3 23 rfl rfl)
theorem dX2_question_93 : decode cX2_question 93 = .ok (.aload_n 0, 1) := dk_42 (dk_at dksX2_question_4 0 rfl rfl)
theorem dX2_question_94 : decode cX2_question 94 = .ok (.getfield 36, 3) := dk_180 0 36 (dk_at dksX2_question_4 1 rfl rfl)
theorem dX2_question_97 : decode cX2_question 97 = .ok (.invokevirtual 47, 3) := dk_182 0 47 (dk_at dksX2_question_4 4 rfl rfl)
theorem dX2_question_100 : decode cX2_question 100 = .ok (.athrow, 1) := dk_191 (dk_at dksX2_question_4 7 rfl rfl)
theorem dX2_question_101 : decode cX2_question 101 = .ok (.aload_n 3, 1) := dk_45 (dk_at dksX2_question_4 8 rfl rfl)
theorem dX2_question_102 : decode cX2_question 102 = .ok (.areturn, 1) := dk_176 (dk_at dksX2_question_4 9 rfl rfl)
theorem q163 : (Jvm.Cond.initialized "MendedThings$Reader") ∈ lw_all := lw_g (lw_at lw_m1 6 rfl) rfl
theorem q242 : (Jvm.Cond.fieldLinkNest "MendedThings$Reader" (117 : Nat) "MendedThings$Island" "statements" "I" "MendedThings") ∈ lw_tbl := lw_at lw_m1 85 rfl
theorem q243 : (Jvm.Cond.fieldLinkNest "MendedThings$Reader" (237 : Nat) "MendedThings$Island" "cat" "I" "MendedThings") ∈ lw_tbl := lw_at lw_m1 86 rfl
theorem q247 : (Jvm.Cond.fieldLinkNest "MendedThings$Reader" (145 : Nat) "MendedThings$Island" "things" "Ljava/util/List;" "MendedThings") ∈ lw_tbl := lw_at lw_m1 90 rfl
theorem q250 : (Jvm.Cond.fieldLinkNest "MendedThings$Reader" (173 : Nat) "MendedThings$Island" "menders" "Ljava/util/List;" "MendedThings") ∈ lw_tbl := lw_at lw_m1 93 rfl
theorem q252 : (Jvm.Cond.fieldLinkNest "MendedThings$Reader" (185 : Nat) "MendedThings$Island" "trials" "Ljava/util/List;" "MendedThings") ∈ lw_tbl := lw_at lw_m1 95 rfl
theorem q255 : (Jvm.Cond.fieldLinkNest "MendedThings$Reader" (217 : Nat) "MendedThings$Island" "stands" "LMendedThings$Test;" "MendedThings") ∈ lw_tbl := lw_at lw_m1 98 rfl
theorem q257 : (Jvm.Cond.fieldLinkNest "MendedThings$Reader" (224 : Nat) "MendedThings$Island" "falls" "LMendedThings$Test;" "MendedThings") ∈ lw_tbl := lw_at lw_m1 100 rfl
theorem q259 : (Jvm.Cond.fieldLinkNest "MendedThings$Reader" (226 : Nat) "MendedThings$Island" "takes" "LMendedThings$Value;" "MendedThings") ∈ lw_tbl := lw_at lw_m1 102 rfl
theorem q261 : (Jvm.Cond.fieldLinkNest "MendedThings$Reader" (233 : Nat) "MendedThings$Island" "fine" "LMendedThings$Value;" "MendedThings") ∈ lw_tbl := lw_at lw_m1 104 rfl
theorem q263 : (Jvm.Cond.fieldLinkNest "MendedThings$Reader" (235 : Nat) "MendedThings$Island" "first" "LMendedThings$Value;" "MendedThings") ∈ lw_tbl := lw_at lw_m1 106 rfl
theorem q286 : (Jvm.Cond.instantiable "MendedThings$Reader" (8 : Nat)) ∈ lw_all := lw_g (lw_at lw_m1 129 rfl) rfl
theorem q288 : (Jvm.Cond.instanceMethod ({ cls := "MendedThings$Reader", name := "<init>", desc := "(LMendedThings;)V" } : Jvm.MethodName)) ∈ lw_all := lw_g (lw_at lw_m1 131 rfl) rfl
theorem q289 : (Jvm.Cond.code ({ cls := "MendedThings$Reader", name := "<init>", desc := "(LMendedThings;)V" } : Jvm.MethodName) prog_16_method_1_code (2 : Nat) (Option.none : Option Jvm.ClassFile.FieldType)) ∈ lw_all := lw_g (lw_at lw_m1 132 rfl) rfl
theorem q290 : (Jvm.Cond.methodLink "MendedThings$Reader" (9 : Nat) ({ cls := "java/lang/Object", name := "<init>", desc := "()V" } : Jvm.MethodName)) ∈ lw_all := lw_g (lw_at lw_m1 133 rfl) rfl
theorem q291 : (Jvm.Cond.classLink "MendedThings$Reader" (15 : Nat) "MendedThings$Fault") ∈ lw_all := lw_g (lw_at lw_m1 134 rfl) rfl
theorem q330 : (Jvm.Cond.methodLink "MendedThings$Reader" (17 : Nat) ({ cls := "MendedThings$Fault", name := "<init>", desc := "()V" } : Jvm.MethodName)) ∈ lw_all := lw_g (lw_at lw_m1 173 rfl) rfl
theorem q342 : (Jvm.Cond.fieldLinkNest "MendedThings$Reader" (22 : Nat) "MendedThings$Fault" "kind" "I" "MendedThings") ∈ lw_tbl := lw_at lw_m1 185 rfl
theorem q344 : (Jvm.Cond.fieldLinkNest "MendedThings$Reader" (26 : Nat) "MendedThings$Fault" "place" "I" "MendedThings") ∈ lw_tbl := lw_at lw_m1 187 rfl
theorem q364 : (Jvm.Cond.fieldLink "MendedThings$Reader" (18 : Nat) "MendedThings$Reader" "fault" "LMendedThings$Fault;") ∈ lw_all := lw_g (lw_at lw_m1 207 rfl) rfl
theorem q365 : (Jvm.Cond.fieldLink "MendedThings$Reader" (29 : Nat) "MendedThings$Reader" "size" "I") ∈ lw_all := lw_g (lw_at lw_m1 208 rfl) rfl
theorem q366 : (Jvm.Cond.fieldLink "MendedThings$Reader" (36 : Nat) "MendedThings$Reader" "at" "I") ∈ lw_all := lw_g (lw_at lw_m1 209 rfl) rfl
theorem q367 : (Jvm.Cond.fieldLink "MendedThings$Reader" (61 : Nat) "MendedThings$Reader" "from" "I") ∈ lw_all := lw_g (lw_at lw_m1 210 rfl) rfl
theorem q368 : (Jvm.Cond.fieldLink "MendedThings$Reader" (114 : Nat) "MendedThings$Reader" "open" "I") ∈ lw_all := lw_g (lw_at lw_m1 211 rfl) rfl
theorem q369 : (Jvm.Cond.fieldLink "MendedThings$Reader" (189 : Nat) "MendedThings$Reader" "context" "I") ∈ lw_all := lw_g (lw_at lw_m1 212 rfl) rfl
theorem q370 : (Jvm.Cond.fieldLink "MendedThings$Reader" (103 : Nat) "MendedThings$Reader" "to" "LMendedThings$Island;") ∈ lw_all := lw_g (lw_at lw_m1 213 rfl) rfl
theorem q371 : (Jvm.Cond.fieldLink "MendedThings$Reader" (3 : Nat) "MendedThings$Reader" "this$0" "LMendedThings;") ∈ lw_all := lw_g (lw_at lw_m1 214 rfl) rfl
theorem q372 : (Jvm.Cond.laysFinal "MendedThings$Reader" "MendedThings$Reader" "fault" "LMendedThings$Fault;") ∈ lw_all := lw_g (lw_at lw_m1 215 rfl) rfl
theorem q373 : (Jvm.Cond.soleField "MendedThings$Reader" "fault") ∈ lw_all := lw_g (lw_at lw_m1 216 rfl) rfl
theorem q374 : (Jvm.Cond.lays "MendedThings$Reader" "MendedThings$Reader" "size" "I") ∈ lw_all := lw_g (lw_at lw_m1 217 rfl) rfl
theorem q375 : (Jvm.Cond.soleField "MendedThings$Reader" "size") ∈ lw_all := lw_g (lw_at lw_m1 218 rfl) rfl
theorem q376 : (Jvm.Cond.lays "MendedThings$Reader" "MendedThings$Reader" "at" "I") ∈ lw_all := lw_g (lw_at lw_m1 219 rfl) rfl
theorem q377 : (Jvm.Cond.soleField "MendedThings$Reader" "at") ∈ lw_all := lw_g (lw_at lw_m1 220 rfl) rfl
theorem q378 : (Jvm.Cond.lays "MendedThings$Reader" "MendedThings$Reader" "from" "I") ∈ lw_all := lw_g (lw_at lw_m1 221 rfl) rfl
theorem q379 : (Jvm.Cond.soleField "MendedThings$Reader" "from") ∈ lw_all := lw_g (lw_at lw_m1 222 rfl) rfl
theorem q380 : (Jvm.Cond.lays "MendedThings$Reader" "MendedThings$Reader" "open" "I") ∈ lw_all := lw_g (lw_at lw_m1 223 rfl) rfl
theorem q381 : (Jvm.Cond.soleField "MendedThings$Reader" "open") ∈ lw_all := lw_g (lw_at lw_m1 224 rfl) rfl
theorem q382 : (Jvm.Cond.lays "MendedThings$Reader" "MendedThings$Reader" "context" "I") ∈ lw_all := lw_g (lw_at lw_m1 225 rfl) rfl
theorem q383 : (Jvm.Cond.soleField "MendedThings$Reader" "context") ∈ lw_all := lw_g (lw_at lw_m1 226 rfl) rfl
theorem q384 : (Jvm.Cond.lays "MendedThings$Reader" "MendedThings$Reader" "to" "LMendedThings$Island;") ∈ lw_all := lw_g (lw_at lw_m1 227 rfl) rfl
theorem q385 : (Jvm.Cond.soleField "MendedThings$Reader" "to") ∈ lw_all := lw_g (lw_at lw_m1 228 rfl) rfl
theorem q386 : (Jvm.Cond.laysFinal "MendedThings$Reader" "MendedThings$Reader" "this$0" "LMendedThings;") ∈ lw_all := lw_g (lw_at lw_m1 229 rfl) rfl
theorem q387 : (Jvm.Cond.soleField "MendedThings$Reader" "this$0") ∈ lw_all := lw_g (lw_at lw_m1 230 rfl) rfl
theorem q388 : (Jvm.Cond.superclass "MendedThings$Reader" "java/lang/Object") ∈ lw_all := lw_g (lw_at lw_m1 231 rfl) rfl
theorem q471 : (Jvm.Cond.fieldLinkNest "MendedThings$Reader" (32 : Nat) "MendedThings" "tape" "[B" "MendedThings") ∈ lw_tbl := lw_at lw_m2 74 rfl
theorem q559 : (Jvm.Cond.instanceMethod ({ cls := "MendedThings$Reader", name := "all", desc := "(I)LMendedThings$Island;" } : Jvm.MethodName)) ∈ lw_all := lw_g (lw_at lw_m2 162 rfl) rfl
theorem q560 : (Jvm.Cond.selects "MendedThings$Reader" ({ cls := "MendedThings$Reader", name := "all", desc := "(I)LMendedThings$Island;" } : Jvm.MethodName) ({ cls := "MendedThings$Reader", name := "all", desc := "(I)LMendedThings$Island;" } : Jvm.MethodName)) ∈ lw_all := lw_g (lw_at lw_m2 163 rfl) rfl
theorem q561 : (Jvm.Cond.code ({ cls := "MendedThings$Reader", name := "all", desc := "(I)LMendedThings$Island;" } : Jvm.MethodName) prog_16_method_15_code (3 : Nat) (Option.some (Jvm.ClassFile.FieldType.object "MendedThings$Island"))) ∈ lw_all := lw_g (lw_at lw_m2 164 rfl) rfl
theorem q562 : (Jvm.Cond.classLink "MendedThings$Reader" (108 : Nat) "MendedThings$Island") ∈ lw_all := lw_g (lw_at lw_m2 165 rfl) rfl
theorem q563 : (Jvm.Cond.methodLinkNest "MendedThings$Reader" (113 : Nat) ({ cls := "MendedThings$Island", name := "<init>", desc := "()V" } : Jvm.MethodName) "MendedThings") ∈ lw_tbl := lw_at lw_m2 166 rfl
theorem q564 : (Jvm.Cond.methodLink "MendedThings$Reader" (43 : Nat) ({ cls := "MendedThings$Reader", name := "here", desc := "()I" } : Jvm.MethodName)) ∈ lw_all := lw_g (lw_at lw_m2 167 rfl) rfl
theorem q565 : (Jvm.Cond.privateMethod ({ cls := "MendedThings$Reader", name := "here", desc := "()I" } : Jvm.MethodName)) ∈ lw_tbl := lw_at lw_m2 168 rfl
theorem q566 : (Jvm.Cond.instanceMethod ({ cls := "MendedThings$Reader", name := "here", desc := "()I" } : Jvm.MethodName)) ∈ lw_all := lw_g (lw_at lw_m2 169 rfl) rfl
theorem q567 : (Jvm.Cond.code ({ cls := "MendedThings$Reader", name := "here", desc := "()I" } : Jvm.MethodName) prog_16_method_4_code (1 : Nat) (Option.some Jvm.ClassFile.FieldType.int)) ∈ lw_all := lw_g (lw_at lw_m2 170 rfl) rfl
theorem q568 : (Jvm.Cond.methodLink "MendedThings$Reader" (39 : Nat) ({ cls := "MendedThings$Reader", name := "byteAt", desc := "(I)I" } : Jvm.MethodName)) ∈ lw_all := lw_g (lw_at lw_m2 171 rfl) rfl
theorem q569 : (Jvm.Cond.privateMethod ({ cls := "MendedThings$Reader", name := "byteAt", desc := "(I)I" } : Jvm.MethodName)) ∈ lw_tbl := lw_at lw_m2 172 rfl
theorem q570 : (Jvm.Cond.instanceMethod ({ cls := "MendedThings$Reader", name := "byteAt", desc := "(I)I" } : Jvm.MethodName)) ∈ lw_all := lw_g (lw_at lw_m2 173 rfl) rfl
theorem q571 : (Jvm.Cond.code ({ cls := "MendedThings$Reader", name := "byteAt", desc := "(I)I" } : Jvm.MethodName) prog_16_method_3_code (2 : Nat) (Option.some Jvm.ClassFile.FieldType.int)) ∈ lw_all := lw_g (lw_at lw_m2 174 rfl) rfl
theorem q572 : (Jvm.Cond.methodLink "MendedThings$Reader" (120 : Nat) ({ cls := "MendedThings$Reader", name := "most", desc := "(ZI)V" } : Jvm.MethodName)) ∈ lw_all := lw_g (lw_at lw_m2 175 rfl) rfl
theorem q573 : (Jvm.Cond.privateMethod ({ cls := "MendedThings$Reader", name := "most", desc := "(ZI)V" } : Jvm.MethodName)) ∈ lw_tbl := lw_at lw_m2 176 rfl
theorem q574 : (Jvm.Cond.instanceMethod ({ cls := "MendedThings$Reader", name := "most", desc := "(ZI)V" } : Jvm.MethodName)) ∈ lw_all := lw_g (lw_at lw_m2 177 rfl) rfl
theorem q575 : (Jvm.Cond.code ({ cls := "MendedThings$Reader", name := "most", desc := "(ZI)V" } : Jvm.MethodName) prog_16_method_14_code (3 : Nat) (Option.none : Option Jvm.ClassFile.FieldType)) ∈ lw_all := lw_g (lw_at lw_m2 178 rfl) rfl
theorem q576 : (Jvm.Cond.methodLink "MendedThings$Reader" (47 : Nat) ({ cls := "MendedThings$Reader", name := "wrong", desc := "(II)LMendedThings$Fault;" } : Jvm.MethodName)) ∈ lw_all := lw_g (lw_at lw_m2 179 rfl) rfl
theorem q577 : (Jvm.Cond.privateMethod ({ cls := "MendedThings$Reader", name := "wrong", desc := "(II)LMendedThings$Fault;" } : Jvm.MethodName)) ∈ lw_tbl := lw_at lw_m2 180 rfl
theorem q578 : (Jvm.Cond.instanceMethod ({ cls := "MendedThings$Reader", name := "wrong", desc := "(II)LMendedThings$Fault;" } : Jvm.MethodName)) ∈ lw_all := lw_g (lw_at lw_m2 181 rfl) rfl
theorem q579 : (Jvm.Cond.code ({ cls := "MendedThings$Reader", name := "wrong", desc := "(II)LMendedThings$Fault;" } : Jvm.MethodName) prog_16_method_2_code (3 : Nat) (Option.some (Jvm.ClassFile.FieldType.object "MendedThings$Fault"))) ∈ lw_all := lw_g (lw_at lw_m2 182 rfl) rfl
theorem q580 : (Jvm.Cond.methodLink "MendedThings$Reader" (70 : Nat) ({ cls := "MendedThings$Reader", name := "word", desc := "()Ljava/lang/String;" } : Jvm.MethodName)) ∈ lw_all := lw_g (lw_at lw_m2 183 rfl) rfl
theorem q581 : (Jvm.Cond.privateMethod ({ cls := "MendedThings$Reader", name := "word", desc := "()Ljava/lang/String;" } : Jvm.MethodName)) ∈ lw_tbl := lw_at lw_m2 184 rfl
theorem q582 : (Jvm.Cond.instanceMethod ({ cls := "MendedThings$Reader", name := "word", desc := "()Ljava/lang/String;" } : Jvm.MethodName)) ∈ lw_all := lw_g (lw_at lw_m2 185 rfl) rfl
theorem q583 : (Jvm.Cond.code ({ cls := "MendedThings$Reader", name := "word", desc := "()Ljava/lang/String;" } : Jvm.MethodName) prog_16_method_7_code (3 : Nat) (Option.some (Jvm.ClassFile.FieldType.object "java/lang/String"))) ∈ lw_all := lw_g (lw_at lw_m2 186 rfl) rfl
theorem q584 : (Jvm.Cond.methodLinkNest "MendedThings$Reader" (51 : Nat) ({ cls := "MendedThings", name := "isLetter", desc := "(I)Z" } : Jvm.MethodName) "MendedThings") ∈ lw_tbl := lw_at lw_m2 187 rfl
theorem q587 : (Jvm.Cond.methodLink "MendedThings$Reader" (58 : Nat) ({ cls := "MendedThings$Reader", name := "parted", desc := "()V" } : Jvm.MethodName)) ∈ lw_all := lw_g (lw_at lw_m2 190 rfl) rfl
theorem q588 : (Jvm.Cond.privateMethod ({ cls := "MendedThings$Reader", name := "parted", desc := "()V" } : Jvm.MethodName)) ∈ lw_tbl := lw_at lw_m2 191 rfl
theorem q589 : (Jvm.Cond.instanceMethod ({ cls := "MendedThings$Reader", name := "parted", desc := "()V" } : Jvm.MethodName)) ∈ lw_all := lw_g (lw_at lw_m2 192 rfl) rfl
theorem q590 : (Jvm.Cond.code ({ cls := "MendedThings$Reader", name := "parted", desc := "()V" } : Jvm.MethodName) prog_16_method_6_code (1 : Nat) (Option.none : Option Jvm.ClassFile.FieldType)) ∈ lw_all := lw_g (lw_at lw_m2 193 rfl) rfl
theorem q591 : (Jvm.Cond.methodLinkNest "MendedThings$Reader" (55 : Nat) ({ cls := "MendedThings", name := "isDigit", desc := "(I)Z" } : Jvm.MethodName) "MendedThings") ∈ lw_tbl := lw_at lw_m2 194 rfl
theorem q594 : (Jvm.Cond.methodLink "MendedThings$Reader" (64 : Nat) ({ cls := "java/lang/String", name := "valueOf", desc := "([C)Ljava/lang/String;" } : Jvm.MethodName)) ∈ lw_all := lw_g (lw_at lw_m2 197 rfl) rfl
theorem q672 : (Jvm.Cond.methodLink "MendedThings$Reader" (124 : Nat) ({ cls := "MendedThings$Reader", name := "named", desc := "(Ljava/lang/String;I)Z" } : Jvm.MethodName)) ∈ lw_all := lw_g (lw_at lw_m3 35 rfl) rfl
theorem q673 : (Jvm.Cond.privateMethod ({ cls := "MendedThings$Reader", name := "named", desc := "(Ljava/lang/String;I)Z" } : Jvm.MethodName)) ∈ lw_tbl := lw_at lw_m3 36 rfl
theorem q674 : (Jvm.Cond.instanceMethod ({ cls := "MendedThings$Reader", name := "named", desc := "(Ljava/lang/String;I)Z" } : Jvm.MethodName)) ∈ lw_all := lw_g (lw_at lw_m3 37 rfl) rfl
theorem q675 : (Jvm.Cond.code ({ cls := "MendedThings$Reader", name := "named", desc := "(Ljava/lang/String;I)Z" } : Jvm.MethodName) prog_16_method_16_code (11 : Nat) (Option.some Jvm.ClassFile.FieldType.boolean)) ∈ lw_all := lw_g (lw_at lw_m3 38 rfl) rfl
theorem q676 : (Jvm.Cond.methodLink "MendedThings$Reader" (136 : Nat) ({ cls := "java/lang/String", name := "hashCode", desc := "()I" } : Jvm.MethodName)) ∈ lw_all := lw_g (lw_at lw_m3 39 rfl) rfl
theorem q729 : (Jvm.Cond.stringRef "MendedThings$Reader" (139 : Nat) "thing") ∈ lw_tbl := lw_at lw_m3 92 rfl
theorem q730 : (Jvm.Cond.methodLink "MendedThings$Reader" (74 : Nat) ({ cls := "java/lang/String", name := "equals", desc := "(Ljava/lang/Object;)Z" } : Jvm.MethodName)) ∈ lw_all := lw_g (lw_at lw_m3 93 rfl) rfl
theorem q737 : (Jvm.Cond.stringRef "MendedThings$Reader" (141 : Nat) "mender") ∈ lw_tbl := lw_at lw_m3 100 rfl
theorem q738 : (Jvm.Cond.stringRef "MendedThings$Reader" (143 : Nat) "trial") ∈ lw_tbl := lw_at lw_m3 101 rfl
theorem q739 : (Jvm.Cond.interfaceEntry "MendedThings$Reader" (149 : Nat)) ∈ lw_tbl := lw_at lw_m3 102 rfl
theorem q740 : (Jvm.Cond.methodLink "MendedThings$Reader" (149 : Nat) ({ cls := "java/util/List", name := "size", desc := "()I" } : Jvm.MethodName)) ∈ lw_all := lw_g (lw_at lw_m3 103 rfl) rfl
theorem q749 : (Jvm.Cond.methodLink "MendedThings$Reader" (153 : Nat) ({ cls := "MendedThings$Reader", name := "fresh", desc := "()Ljava/lang/String;" } : Jvm.MethodName)) ∈ lw_all := lw_g (lw_at lw_m3 112 rfl) rfl
theorem q750 : (Jvm.Cond.privateMethod ({ cls := "MendedThings$Reader", name := "fresh", desc := "()Ljava/lang/String;" } : Jvm.MethodName)) ∈ lw_tbl := lw_at lw_m3 113 rfl
theorem q751 : (Jvm.Cond.instanceMethod ({ cls := "MendedThings$Reader", name := "fresh", desc := "()Ljava/lang/String;" } : Jvm.MethodName)) ∈ lw_all := lw_g (lw_at lw_m3 114 rfl) rfl
theorem q752 : (Jvm.Cond.code ({ cls := "MendedThings$Reader", name := "fresh", desc := "()Ljava/lang/String;" } : Jvm.MethodName) prog_16_method_13_code (2 : Nat) (Option.some (Jvm.ClassFile.FieldType.object "java/lang/String"))) ∈ lw_all := lw_g (lw_at lw_m3 115 rfl) rfl
theorem q753 : (Jvm.Cond.methodLink "MendedThings$Reader" (100 : Nat) ({ cls := "MendedThings$Reader", name := "name", desc := "()Ljava/lang/String;" } : Jvm.MethodName)) ∈ lw_all := lw_g (lw_at lw_m3 116 rfl) rfl
theorem q754 : (Jvm.Cond.privateMethod ({ cls := "MendedThings$Reader", name := "name", desc := "()Ljava/lang/String;" } : Jvm.MethodName)) ∈ lw_tbl := lw_at lw_m3 117 rfl
theorem q755 : (Jvm.Cond.instanceMethod ({ cls := "MendedThings$Reader", name := "name", desc := "()Ljava/lang/String;" } : Jvm.MethodName)) ∈ lw_all := lw_g (lw_at lw_m3 118 rfl) rfl
theorem q756 : (Jvm.Cond.code ({ cls := "MendedThings$Reader", name := "name", desc := "()Ljava/lang/String;" } : Jvm.MethodName) prog_16_method_10_code (2 : Nat) (Option.some (Jvm.ClassFile.FieldType.object "java/lang/String"))) ∈ lw_all := lw_g (lw_at lw_m3 119 rfl) rfl
theorem q757 : (Jvm.Cond.fieldLinkNest "MendedThings$Reader" (78 : Nat) "MendedThings" "OWN" "[Ljava/lang/String;" "MendedThings") ∈ lw_tbl := lw_at lw_m3 120 rfl
theorem q759 : (Jvm.Cond.methodLinkNest "MendedThings$Reader" (82 : Nat) ({ cls := "MendedThings", name := "find", desc := "(Ljava/lang/String;[Ljava/lang/String;)I" } : Jvm.MethodName) "MendedThings") ∈ lw_tbl := lw_at lw_m3 122 rfl
theorem q763 : (Jvm.Cond.methodLink "MendedThings$Reader" (86 : Nat) ({ cls := "java/lang/String", name := "length", desc := "()I" } : Jvm.MethodName)) ∈ lw_all := lw_g (lw_at lw_m3 126 rfl) rfl
theorem q771 : (Jvm.Cond.methodLink "MendedThings$Reader" (107 : Nat) ({ cls := "MendedThings$Island", name := "isNamed", desc := "(Ljava/lang/String;)Z" } : Jvm.MethodName)) ∈ lw_all := lw_g (lw_at lw_m3 134 rfl) rfl
theorem q801 : (Jvm.Cond.stringRef "MendedThings$Reader" (156 : Nat) "worth") ∈ lw_tbl := lw_at lw_m3 164 rfl
theorem q802 : (Jvm.Cond.methodLink "MendedThings$Reader" (158 : Nat) ({ cls := "MendedThings$Reader", name := "number", desc := "(Ljava/lang/String;II)I" } : Jvm.MethodName)) ∈ lw_all := lw_g (lw_at lw_m3 165 rfl) rfl
theorem q803 : (Jvm.Cond.privateMethod ({ cls := "MendedThings$Reader", name := "number", desc := "(Ljava/lang/String;II)I" } : Jvm.MethodName)) ∈ lw_tbl := lw_at lw_m3 166 rfl
theorem q804 : (Jvm.Cond.instanceMethod ({ cls := "MendedThings$Reader", name := "number", desc := "(Ljava/lang/String;II)I" } : Jvm.MethodName)) ∈ lw_all := lw_g (lw_at lw_m3 167 rfl) rfl
theorem q805 : (Jvm.Cond.code ({ cls := "MendedThings$Reader", name := "number", desc := "(Ljava/lang/String;II)I" } : Jvm.MethodName) prog_16_method_12_code (4 : Nat) (Option.some Jvm.ClassFile.FieldType.int)) ∈ lw_all := lw_g (lw_at lw_m3 168 rfl) rfl
theorem q806 : (Jvm.Cond.methodLink "MendedThings$Reader" (93 : Nat) ({ cls := "MendedThings$Reader", name := "word", desc := "(Ljava/lang/String;)V" } : Jvm.MethodName)) ∈ lw_all := lw_g (lw_at lw_m3 169 rfl) rfl
theorem q807 : (Jvm.Cond.privateMethod ({ cls := "MendedThings$Reader", name := "word", desc := "(Ljava/lang/String;)V" } : Jvm.MethodName)) ∈ lw_tbl := lw_at lw_m3 170 rfl
theorem q808 : (Jvm.Cond.instanceMethod ({ cls := "MendedThings$Reader", name := "word", desc := "(Ljava/lang/String;)V" } : Jvm.MethodName)) ∈ lw_all := lw_g (lw_at lw_m3 171 rfl) rfl
theorem q809 : (Jvm.Cond.code ({ cls := "MendedThings$Reader", name := "word", desc := "(Ljava/lang/String;)V" } : Jvm.MethodName) prog_16_method_8_code (2 : Nat) (Option.none : Option Jvm.ClassFile.FieldType)) ∈ lw_all := lw_g (lw_at lw_m3 172 rfl) rfl
theorem q810 : (Jvm.Cond.methodLink "MendedThings$Reader" (96 : Nat) ({ cls := "MendedThings$Reader", name := "number", desc := "(II)I" } : Jvm.MethodName)) ∈ lw_all := lw_g (lw_at lw_m3 173 rfl) rfl
theorem q811 : (Jvm.Cond.privateMethod ({ cls := "MendedThings$Reader", name := "number", desc := "(II)I" } : Jvm.MethodName)) ∈ lw_tbl := lw_at lw_m3 174 rfl
theorem q812 : (Jvm.Cond.instanceMethod ({ cls := "MendedThings$Reader", name := "number", desc := "(II)I" } : Jvm.MethodName)) ∈ lw_all := lw_g (lw_at lw_m3 175 rfl) rfl
theorem q813 : (Jvm.Cond.code ({ cls := "MendedThings$Reader", name := "number", desc := "(II)I" } : Jvm.MethodName) prog_16_method_11_code (4 : Nat) (Option.some Jvm.ClassFile.FieldType.int)) ∈ lw_all := lw_g (lw_at lw_m3 176 rfl) rfl
theorem q814 : (Jvm.Cond.methodLinkNest "MendedThings$Reader" (89 : Nat) ({ cls := "MendedThings", name := "is", desc := "(III)Z" } : Jvm.MethodName) "MendedThings") ∈ lw_tbl := lw_at lw_m3 177 rfl
theorem q817 : (Jvm.Cond.stringRef "MendedThings$Reader" (161 : Nat) "use") ∈ lw_tbl := lw_at lw_m3 180 rfl
theorem q818 : (Jvm.Cond.classLink "MendedThings$Reader" (163 : Nat) "MendedThings$Thing") ∈ lw_all := lw_g (lw_at lw_m3 181 rfl) rfl
theorem q820 : (Jvm.Cond.stringRef "MendedThings$Reader" (165 : Nat) "frail") ∈ lw_tbl := lw_at lw_m3 183 rfl
theorem q821 : (Jvm.Cond.methodLink "MendedThings$Reader" (167 : Nat) ({ cls := "MendedThings$Thing", name := "<init>", desc := "(Ljava/lang/String;III)V" } : Jvm.MethodName)) ∈ lw_all := lw_g (lw_at lw_m3 184 rfl) rfl
theorem q847 : (Jvm.Cond.interfaceEntry "MendedThings$Reader" (170 : Nat)) ∈ lw_tbl := lw_at lw_m3 210 rfl
theorem q848 : (Jvm.Cond.methodLink "MendedThings$Reader" (170 : Nat) ({ cls := "java/util/List", name := "add", desc := "(Ljava/lang/Object;)Z" } : Jvm.MethodName)) ∈ lw_all := lw_g (lw_at lw_m3 211 rfl) rfl
theorem q900 : (Jvm.Cond.selects "MendedThings$Reader" ({ cls := "java/lang/Object", name := "getClass", desc := "()Ljava/lang/Class;" } : Jvm.MethodName) ({ cls := "java/lang/Object", name := "getClass", desc := "()Ljava/lang/Class;" } : Jvm.MethodName)) ∈ lw_all := lw_g (lw_at lw_m4 23 rfl) rfl
theorem q923 : (Jvm.Cond.stringRef "MendedThings$Reader" (176 : Nat) "skill") ∈ lw_tbl := lw_at lw_m4 46 rfl
theorem q924 : (Jvm.Cond.classLink "MendedThings$Reader" (178 : Nat) "MendedThings$Mender") ∈ lw_all := lw_g (lw_at lw_m4 47 rfl) rfl
theorem q926 : (Jvm.Cond.stringRef "MendedThings$Reader" (180 : Nat) "hours") ∈ lw_tbl := lw_at lw_m4 49 rfl
theorem q927 : (Jvm.Cond.methodLink "MendedThings$Reader" (182 : Nat) ({ cls := "MendedThings$Mender", name := "<init>", desc := "(Ljava/lang/String;II)V" } : Jvm.MethodName)) ∈ lw_all := lw_g (lw_at lw_m4 50 rfl) rfl
theorem q943 : (Jvm.Cond.stringRef "MendedThings$Reader" (188 : Nat) "is") ∈ lw_tbl := lw_at lw_m4 66 rfl
theorem q944 : (Jvm.Cond.classLink "MendedThings$Reader" (192 : Nat) "MendedThings$Trial") ∈ lw_all := lw_g (lw_at lw_m4 67 rfl) rfl
theorem q946 : (Jvm.Cond.methodLink "MendedThings$Reader" (194 : Nat) ({ cls := "MendedThings$Reader", name := "test", desc := "()LMendedThings$Test;" } : Jvm.MethodName)) ∈ lw_all := lw_g (lw_at lw_m4 69 rfl) rfl
theorem q947 : (Jvm.Cond.privateMethod ({ cls := "MendedThings$Reader", name := "test", desc := "()LMendedThings$Test;" } : Jvm.MethodName)) ∈ lw_tbl := lw_at lw_m4 70 rfl
theorem q948 : (Jvm.Cond.instanceMethod ({ cls := "MendedThings$Reader", name := "test", desc := "()LMendedThings$Test;" } : Jvm.MethodName)) ∈ lw_all := lw_g (lw_at lw_m4 71 rfl) rfl
theorem q949 : (Jvm.Cond.code ({ cls := "MendedThings$Reader", name := "test", desc := "()LMendedThings$Test;" } : Jvm.MethodName) prog_16_method_26_code (2 : Nat) (Option.some (Jvm.ClassFile.FieldType.object "MendedThings$Test"))) ∈ lw_all := lw_g (lw_at lw_m4 72 rfl) rfl
theorem q950 : (Jvm.Cond.classLink "MendedThings$Reader" (291 : Nat) "MendedThings$Facts") ∈ lw_all := lw_g (lw_at lw_m4 73 rfl) rfl
theorem q952 : (Jvm.Cond.methodLink "MendedThings$Reader" (293 : Nat) ({ cls := "MendedThings$Facts", name := "<init>", desc := "(Z)V" } : Jvm.MethodName)) ∈ lw_all := lw_g (lw_at lw_m4 75 rfl) rfl
theorem q962 : (Jvm.Cond.fieldLinkNest "MendedThings$Reader" (296 : Nat) "MendedThings$Facts" "tests" "Ljava/util/List;" "MendedThings") ∈ lw_tbl := lw_at lw_m4 85 rfl
theorem q969 : (Jvm.Cond.methodLink "MendedThings$Reader" (299 : Nat) ({ cls := "MendedThings$Reader", name := "both", desc := "()LMendedThings$Test;" } : Jvm.MethodName)) ∈ lw_all := lw_g (lw_at lw_m4 92 rfl) rfl
theorem q970 : (Jvm.Cond.privateMethod ({ cls := "MendedThings$Reader", name := "both", desc := "()LMendedThings$Test;" } : Jvm.MethodName)) ∈ lw_tbl := lw_at lw_m4 93 rfl
theorem q971 : (Jvm.Cond.instanceMethod ({ cls := "MendedThings$Reader", name := "both", desc := "()LMendedThings$Test;" } : Jvm.MethodName)) ∈ lw_all := lw_g (lw_at lw_m4 94 rfl) rfl
theorem q972 : (Jvm.Cond.code ({ cls := "MendedThings$Reader", name := "both", desc := "()LMendedThings$Test;" } : Jvm.MethodName) prog_16_method_27_code (2 : Nat) (Option.some (Jvm.ClassFile.FieldType.object "MendedThings$Test"))) ∈ lw_all := lw_g (lw_at lw_m4 95 rfl) rfl
theorem q973 : (Jvm.Cond.methodLink "MendedThings$Reader" (307 : Nat) ({ cls := "MendedThings$Reader", name := "fact", desc := "()LMendedThings$Test;" } : Jvm.MethodName)) ∈ lw_all := lw_g (lw_at lw_m4 96 rfl) rfl
theorem q974 : (Jvm.Cond.privateMethod ({ cls := "MendedThings$Reader", name := "fact", desc := "()LMendedThings$Test;" } : Jvm.MethodName)) ∈ lw_tbl := lw_at lw_m4 97 rfl
theorem q975 : (Jvm.Cond.instanceMethod ({ cls := "MendedThings$Reader", name := "fact", desc := "()LMendedThings$Test;" } : Jvm.MethodName)) ∈ lw_all := lw_g (lw_at lw_m4 98 rfl) rfl
theorem q976 : (Jvm.Cond.code ({ cls := "MendedThings$Reader", name := "fact", desc := "()LMendedThings$Test;" } : Jvm.MethodName) prog_16_method_28_code (3 : Nat) (Option.some (Jvm.ClassFile.FieldType.object "MendedThings$Test"))) ∈ lw_all := lw_g (lw_at lw_m4 99 rfl) rfl
theorem q977 : (Jvm.Cond.methodLink "MendedThings$Reader" (253 : Nat) ({ cls := "MendedThings$Reader", name := "opens", desc := "(I)V" } : Jvm.MethodName)) ∈ lw_all := lw_g (lw_at lw_m4 100 rfl) rfl
theorem q978 : (Jvm.Cond.privateMethod ({ cls := "MendedThings$Reader", name := "opens", desc := "(I)V" } : Jvm.MethodName)) ∈ lw_tbl := lw_at lw_m4 101 rfl
theorem q979 : (Jvm.Cond.instanceMethod ({ cls := "MendedThings$Reader", name := "opens", desc := "(I)V" } : Jvm.MethodName)) ∈ lw_all := lw_g (lw_at lw_m4 102 rfl) rfl
theorem q980 : (Jvm.Cond.code ({ cls := "MendedThings$Reader", name := "opens", desc := "(I)V" } : Jvm.MethodName) prog_16_method_23_code (2 : Nat) (Option.none : Option Jvm.ClassFile.FieldType)) ∈ lw_all := lw_g (lw_at lw_m4 103 rfl) rfl
theorem q981 : (Jvm.Cond.methodLink "MendedThings$Reader" (132 : Nat) ({ cls := "MendedThings$Reader", name := "must", desc := "(I)V" } : Jvm.MethodName)) ∈ lw_all := lw_g (lw_at lw_m4 104 rfl) rfl
theorem q982 : (Jvm.Cond.privateMethod ({ cls := "MendedThings$Reader", name := "must", desc := "(I)V" } : Jvm.MethodName)) ∈ lw_tbl := lw_at lw_m4 105 rfl
theorem q983 : (Jvm.Cond.instanceMethod ({ cls := "MendedThings$Reader", name := "must", desc := "(I)V" } : Jvm.MethodName)) ∈ lw_all := lw_g (lw_at lw_m4 106 rfl) rfl
theorem q984 : (Jvm.Cond.code ({ cls := "MendedThings$Reader", name := "must", desc := "(I)V" } : Jvm.MethodName) prog_16_method_5_code (2 : Nat) (Option.none : Option Jvm.ClassFile.FieldType)) ∈ lw_all := lw_g (lw_at lw_m4 107 rfl) rfl
theorem q985 : (Jvm.Cond.stringRef "MendedThings$Reader" (312 : Nat) "not") ∈ lw_tbl := lw_at lw_m4 108 rfl
theorem q986 : (Jvm.Cond.methodLink "MendedThings$Reader" (304 : Nat) ({ cls := "MendedThings$Reader", name := "passes", desc := "(Ljava/lang/String;)Z" } : Jvm.MethodName)) ∈ lw_all := lw_g (lw_at lw_m4 109 rfl) rfl
theorem q987 : (Jvm.Cond.privateMethod ({ cls := "MendedThings$Reader", name := "passes", desc := "(Ljava/lang/String;)Z" } : Jvm.MethodName)) ∈ lw_tbl := lw_at lw_m4 110 rfl
theorem q988 : (Jvm.Cond.instanceMethod ({ cls := "MendedThings$Reader", name := "passes", desc := "(Ljava/lang/String;)Z" } : Jvm.MethodName)) ∈ lw_all := lw_g (lw_at lw_m4 111 rfl) rfl
theorem q989 : (Jvm.Cond.code ({ cls := "MendedThings$Reader", name := "passes", desc := "(Ljava/lang/String;)Z" } : Jvm.MethodName) prog_16_method_9_code (3 : Nat) (Option.some Jvm.ClassFile.FieldType.boolean)) ∈ lw_all := lw_g (lw_at lw_m4 112 rfl) rfl
theorem q990 : (Jvm.Cond.classLink "MendedThings$Reader" (314 : Nat) "MendedThings$Not") ∈ lw_all := lw_g (lw_at lw_m4 113 rfl) rfl
theorem q992 : (Jvm.Cond.methodLink "MendedThings$Reader" (316 : Nat) ({ cls := "MendedThings$Not", name := "<init>", desc := "(LMendedThings$Test;)V" } : Jvm.MethodName)) ∈ lw_all := lw_g (lw_at lw_m4 115 rfl) rfl
theorem q1000 : (Jvm.Cond.stringRef "MendedThings$Reader" (319 : Nat) "all") ∈ lw_tbl := lw_at lw_m4 123 rfl
theorem q1001 : (Jvm.Cond.classLink "MendedThings$Reader" (321 : Nat) "MendedThings$All") ∈ lw_all := lw_g (lw_at lw_m4 124 rfl) rfl
theorem q1003 : (Jvm.Cond.methodLinkNest "MendedThings$Reader" (323 : Nat) ({ cls := "MendedThings$All", name := "<init>", desc := "()V" } : Jvm.MethodName) "MendedThings") ∈ lw_tbl := lw_at lw_m4 126 rfl
theorem q1008 : (Jvm.Cond.methodLink "MendedThings$Reader" (201 : Nat) ({ cls := "MendedThings$Reader", name := "sum", desc := "()LMendedThings$Value;" } : Jvm.MethodName)) ∈ lw_all := lw_g (lw_at lw_m4 131 rfl) rfl
theorem q1009 : (Jvm.Cond.privateMethod ({ cls := "MendedThings$Reader", name := "sum", desc := "()LMendedThings$Value;" } : Jvm.MethodName)) ∈ lw_tbl := lw_at lw_m4 132 rfl
theorem q1010 : (Jvm.Cond.instanceMethod ({ cls := "MendedThings$Reader", name := "sum", desc := "()LMendedThings$Value;" } : Jvm.MethodName)) ∈ lw_all := lw_g (lw_at lw_m4 133 rfl) rfl
theorem q1011 : (Jvm.Cond.code ({ cls := "MendedThings$Reader", name := "sum", desc := "()LMendedThings$Value;" } : Jvm.MethodName) prog_16_method_21_code (3 : Nat) (Option.some (Jvm.ClassFile.FieldType.object "MendedThings$Value"))) ∈ lw_all := lw_g (lw_at lw_m4 134 rfl) rfl
theorem q1012 : (Jvm.Cond.classLink "MendedThings$Reader" (239 : Nat) "MendedThings$Chain") ∈ lw_all := lw_g (lw_at lw_m4 135 rfl) rfl
theorem q1014 : (Jvm.Cond.methodLinkNest "MendedThings$Reader" (241 : Nat) ({ cls := "MendedThings$Chain", name := "<init>", desc := "()V" } : Jvm.MethodName) "MendedThings") ∈ lw_tbl := lw_at lw_m4 137 rfl
theorem q1053 : (Jvm.Cond.methodLink "MendedThings$Reader" (242 : Nat) ({ cls := "MendedThings$Reader", name := "product", desc := "()LMendedThings$Value;" } : Jvm.MethodName)) ∈ lw_all := lw_g (lw_at lw_m4 176 rfl) rfl
theorem q1054 : (Jvm.Cond.privateMethod ({ cls := "MendedThings$Reader", name := "product", desc := "()LMendedThings$Value;" } : Jvm.MethodName)) ∈ lw_tbl := lw_at lw_m4 177 rfl
theorem q1055 : (Jvm.Cond.instanceMethod ({ cls := "MendedThings$Reader", name := "product", desc := "()LMendedThings$Value;" } : Jvm.MethodName)) ∈ lw_all := lw_g (lw_at lw_m4 178 rfl) rfl
theorem q1056 : (Jvm.Cond.code ({ cls := "MendedThings$Reader", name := "product", desc := "()LMendedThings$Value;" } : Jvm.MethodName) prog_16_method_22_code (3 : Nat) (Option.some (Jvm.ClassFile.FieldType.object "MendedThings$Value"))) ∈ lw_all := lw_g (lw_at lw_m4 179 rfl) rfl
theorem q1057 : (Jvm.Cond.methodLink "MendedThings$Reader" (250 : Nat) ({ cls := "MendedThings$Reader", name := "atom", desc := "()LMendedThings$Value;" } : Jvm.MethodName)) ∈ lw_all := lw_g (lw_at lw_m4 180 rfl) rfl
theorem q1058 : (Jvm.Cond.privateMethod ({ cls := "MendedThings$Reader", name := "atom", desc := "()LMendedThings$Value;" } : Jvm.MethodName)) ∈ lw_tbl := lw_at lw_m4 181 rfl
theorem q1059 : (Jvm.Cond.instanceMethod ({ cls := "MendedThings$Reader", name := "atom", desc := "()LMendedThings$Value;" } : Jvm.MethodName)) ∈ lw_all := lw_g (lw_at lw_m4 182 rfl) rfl
theorem q1060 : (Jvm.Cond.code ({ cls := "MendedThings$Reader", name := "atom", desc := "()LMendedThings$Value;" } : Jvm.MethodName) prog_16_method_25_code (3 : Nat) (Option.some (Jvm.ClassFile.FieldType.object "MendedThings$Value"))) ∈ lw_all := lw_g (lw_at lw_m4 183 rfl) rfl
theorem q1061 : (Jvm.Cond.methodLink "MendedThings$Reader" (261 : Nat) ({ cls := "MendedThings$Reader", name := "within", desc := "(I)LMendedThings$Value;" } : Jvm.MethodName)) ∈ lw_all := lw_g (lw_at lw_m4 184 rfl) rfl
theorem q1062 : (Jvm.Cond.privateMethod ({ cls := "MendedThings$Reader", name := "within", desc := "(I)LMendedThings$Value;" } : Jvm.MethodName)) ∈ lw_tbl := lw_at lw_m4 185 rfl
theorem q1063 : (Jvm.Cond.instanceMethod ({ cls := "MendedThings$Reader", name := "within", desc := "(I)LMendedThings$Value;" } : Jvm.MethodName)) ∈ lw_all := lw_g (lw_at lw_m4 186 rfl) rfl
theorem q1064 : (Jvm.Cond.code ({ cls := "MendedThings$Reader", name := "within", desc := "(I)LMendedThings$Value;" } : Jvm.MethodName) prog_16_method_24_code (4 : Nat) (Option.some (Jvm.ClassFile.FieldType.object "MendedThings$Value"))) ∈ lw_all := lw_g (lw_at lw_m4 187 rfl) rfl
theorem q1065 : (Jvm.Cond.classLink "MendedThings$Reader" (256 : Nat) "MendedThings$Pair") ∈ lw_all := lw_g (lw_at lw_m4 188 rfl) rfl
theorem q1067 : (Jvm.Cond.methodLink "MendedThings$Reader" (258 : Nat) ({ cls := "MendedThings$Pair", name := "<init>", desc := "(ZLMendedThings$Value;LMendedThings$Value;)V" } : Jvm.MethodName)) ∈ lw_all := lw_g (lw_at lw_m4 190 rfl) rfl
theorem q1081 : (Jvm.Cond.classLink "MendedThings$Reader" (265 : Nat) "MendedThings$Fixed") ∈ lw_all := lw_g (lw_at lw_m4 204 rfl) rfl
theorem q1083 : (Jvm.Cond.methodLink "MendedThings$Reader" (267 : Nat) ({ cls := "MendedThings$Fixed", name := "<init>", desc := "(J)V" } : Jvm.MethodName)) ∈ lw_all := lw_g (lw_at lw_m4 206 rfl) rfl
theorem q1091 : (Jvm.Cond.fieldLinkNest "MendedThings$Reader" (270 : Nat) "MendedThings" "ASKED" "[Ljava/lang/String;" "MendedThings") ∈ lw_tbl := lw_at lw_m4 214 rfl
theorem q1093 : (Jvm.Cond.methodLinkNest "MendedThings$Reader" (273 : Nat) ({ cls := "MendedThings", name := "has", desc := "(II)Z" } : Jvm.MethodName) "MendedThings") ∈ lw_tbl := lw_at lw_m4 216 rfl
theorem q1096 : (Jvm.Cond.classLink "MendedThings$Reader" (277 : Nat) "MendedThings$Asked") ∈ lw_all := lw_g (lw_at lw_m4 219 rfl) rfl
theorem q1098 : (Jvm.Cond.methodLink "MendedThings$Reader" (279 : Nat) ({ cls := "MendedThings$Asked", name := "<init>", desc := "(I)V" } : Jvm.MethodName)) ∈ lw_all := lw_g (lw_at lw_m4 221 rfl) rfl
theorem q1106 : (Jvm.Cond.fieldLinkNest "MendedThings$Reader" (281 : Nat) "MendedThings" "LOOKED" "[Ljava/lang/String;" "MendedThings") ∈ lw_tbl := lw_at lw_m4 229 rfl
theorem q1108 : (Jvm.Cond.methodLink "MendedThings$Reader" (284 : Nat) ({ cls := "MendedThings$Reader", name := "looked", desc := "(I)LMendedThings$Value;" } : Jvm.MethodName)) ∈ lw_all := lw_g (lw_at lw_m4 231 rfl) rfl
theorem q1109 : (Jvm.Cond.privateMethod ({ cls := "MendedThings$Reader", name := "looked", desc := "(I)LMendedThings$Value;" } : Jvm.MethodName)) ∈ lw_tbl := lw_at lw_m4 232 rfl
theorem q1110 : (Jvm.Cond.instanceMethod ({ cls := "MendedThings$Reader", name := "looked", desc := "(I)LMendedThings$Value;" } : Jvm.MethodName)) ∈ lw_all := lw_g (lw_at lw_m4 233 rfl) rfl
theorem q1111 : (Jvm.Cond.code ({ cls := "MendedThings$Reader", name := "looked", desc := "(I)LMendedThings$Value;" } : Jvm.MethodName) prog_16_method_29_code (3 : Nat) (Option.some (Jvm.ClassFile.FieldType.object "MendedThings$Value"))) ∈ lw_all := lw_g (lw_at lw_m4 234 rfl) rfl
theorem q1112 : (Jvm.Cond.classLink "MendedThings$Reader" (329 : Nat) "MendedThings$Looked") ∈ lw_all := lw_g (lw_at lw_m4 235 rfl) rfl
theorem q1114 : (Jvm.Cond.methodLink "MendedThings$Reader" (331 : Nat) ({ cls := "MendedThings$Looked", name := "<init>", desc := "(LMendedThings;ILMendedThings$Value;)V" } : Jvm.MethodName)) ∈ lw_all := lw_g (lw_at lw_m4 237 rfl) rfl
theorem q1128 : (Jvm.Cond.stringRef "MendedThings$Reader" (287 : Nat) "min") ∈ lw_tbl := lw_at lw_m5 11 rfl
theorem q1129 : (Jvm.Cond.stringRef "MendedThings$Reader" (289 : Nat) "max") ∈ lw_tbl := lw_at lw_m5 12 rfl
theorem q1130 : (Jvm.Cond.methodLink "MendedThings$Reader" (245 : Nat) ({ cls := "MendedThings$Chain", name := "add", desc := "(CLMendedThings$Value;)V" } : Jvm.MethodName)) ∈ lw_all := lw_g (lw_at lw_m5 13 rfl) rfl
theorem q1191 : (Jvm.Cond.methodLink "MendedThings$Reader" (248 : Nat) ({ cls := "MendedThings$Reader", name := "takes", desc := "(I)Z" } : Jvm.MethodName)) ∈ lw_all := lw_g (lw_at lw_m5 74 rfl) rfl
theorem q1192 : (Jvm.Cond.privateMethod ({ cls := "MendedThings$Reader", name := "takes", desc := "(I)Z" } : Jvm.MethodName)) ∈ lw_tbl := lw_at lw_m5 75 rfl
theorem q1193 : (Jvm.Cond.instanceMethod ({ cls := "MendedThings$Reader", name := "takes", desc := "(I)Z" } : Jvm.MethodName)) ∈ lw_all := lw_g (lw_at lw_m5 76 rfl) rfl
theorem q1194 : (Jvm.Cond.code ({ cls := "MendedThings$Reader", name := "takes", desc := "(I)Z" } : Jvm.MethodName) prog_16_method_20_code (3 : Nat) (Option.some Jvm.ClassFile.FieldType.boolean)) ∈ lw_all := lw_g (lw_at lw_m5 77 rfl) rfl
theorem q1195 : (Jvm.Cond.classLink "MendedThings$Reader" (324 : Nat) "MendedThings$Than") ∈ lw_all := lw_g (lw_at lw_m5 78 rfl) rfl
theorem q1197 : (Jvm.Cond.methodLink "MendedThings$Reader" (326 : Nat) ({ cls := "MendedThings$Than", name := "<init>", desc := "(LMendedThings$Value;ILMendedThings$Value;)V" } : Jvm.MethodName)) ∈ lw_all := lw_g (lw_at lw_m5 80 rfl) rfl
theorem q1211 : (Jvm.Cond.stringRef "MendedThings$Reader" (310 : Nat) "and") ∈ lw_tbl := lw_at lw_m5 94 rfl
theorem q1212 : (Jvm.Cond.stringRef "MendedThings$Reader" (302 : Nat) "or") ∈ lw_tbl := lw_at lw_m5 95 rfl
theorem q1213 : (Jvm.Cond.methodLink "MendedThings$Reader" (198 : Nat) ({ cls := "MendedThings$Trial", name := "<init>", desc := "(Ljava/lang/String;LMendedThings$Test;)V" } : Jvm.MethodName)) ∈ lw_all := lw_g (lw_at lw_m5 96 rfl) rfl
theorem q1223 : (Jvm.Cond.methodLink "MendedThings$Reader" (128 : Nat) ({ cls := "MendedThings$Reader", name := "laws", desc := "(Ljava/lang/String;I)V" } : Jvm.MethodName)) ∈ lw_all := lw_g (lw_at lw_m5 106 rfl) rfl
theorem q1224 : (Jvm.Cond.privateMethod ({ cls := "MendedThings$Reader", name := "laws", desc := "(Ljava/lang/String;I)V" } : Jvm.MethodName)) ∈ lw_tbl := lw_at lw_m5 107 rfl
theorem q1225 : (Jvm.Cond.instanceMethod ({ cls := "MendedThings$Reader", name := "laws", desc := "(Ljava/lang/String;I)V" } : Jvm.MethodName)) ∈ lw_all := lw_g (lw_at lw_m5 108 rfl) rfl
theorem q1226 : (Jvm.Cond.code ({ cls := "MendedThings$Reader", name := "laws", desc := "(Ljava/lang/String;I)V" } : Jvm.MethodName) prog_16_method_19_code (5 : Nat) (Option.none : Option Jvm.ClassFile.FieldType)) ∈ lw_all := lw_g (lw_at lw_m5 109 rfl) rfl
theorem q1227 : (Jvm.Cond.stringRef "MendedThings$Reader" (205 : Nat) "stands") ∈ lw_tbl := lw_at lw_m5 110 rfl
theorem q1228 : (Jvm.Cond.stringRef "MendedThings$Reader" (207 : Nat) "falls") ∈ lw_tbl := lw_at lw_m5 111 rfl
theorem q1229 : (Jvm.Cond.stringRef "MendedThings$Reader" (209 : Nat) "takes") ∈ lw_tbl := lw_at lw_m5 112 rfl
theorem q1230 : (Jvm.Cond.stringRef "MendedThings$Reader" (211 : Nat) "fine") ∈ lw_tbl := lw_at lw_m5 113 rfl
theorem q1231 : (Jvm.Cond.stringRef "MendedThings$Reader" (213 : Nat) "first") ∈ lw_tbl := lw_at lw_m5 114 rfl
theorem q1232 : (Jvm.Cond.stringRef "MendedThings$Reader" (215 : Nat) "cat") ∈ lw_tbl := lw_at lw_m5 115 rfl
theorem q1233 : (Jvm.Cond.methodLink "MendedThings$Reader" (220 : Nat) ({ cls := "MendedThings$Reader", name := "testOnce", desc := "(LMendedThings$Test;II)LMendedThings$Test;" } : Jvm.MethodName)) ∈ lw_all := lw_g (lw_at lw_m5 116 rfl) rfl
theorem q1234 : (Jvm.Cond.privateMethod ({ cls := "MendedThings$Reader", name := "testOnce", desc := "(LMendedThings$Test;II)LMendedThings$Test;" } : Jvm.MethodName)) ∈ lw_tbl := lw_at lw_m5 117 rfl
theorem q1235 : (Jvm.Cond.instanceMethod ({ cls := "MendedThings$Reader", name := "testOnce", desc := "(LMendedThings$Test;II)LMendedThings$Test;" } : Jvm.MethodName)) ∈ lw_all := lw_g (lw_at lw_m5 118 rfl) rfl
theorem q1236 : (Jvm.Cond.code ({ cls := "MendedThings$Reader", name := "testOnce", desc := "(LMendedThings$Test;II)LMendedThings$Test;" } : Jvm.MethodName) prog_16_method_18_code (4 : Nat) (Option.some (Jvm.ClassFile.FieldType.object "MendedThings$Test"))) ∈ lw_all := lw_g (lw_at lw_m5 119 rfl) rfl
theorem q1237 : (Jvm.Cond.methodLink "MendedThings$Reader" (229 : Nat) ({ cls := "MendedThings$Reader", name := "sumOnce", desc := "(LMendedThings$Value;II)LMendedThings$Value;" } : Jvm.MethodName)) ∈ lw_all := lw_g (lw_at lw_m5 120 rfl) rfl
theorem q1238 : (Jvm.Cond.privateMethod ({ cls := "MendedThings$Reader", name := "sumOnce", desc := "(LMendedThings$Value;II)LMendedThings$Value;" } : Jvm.MethodName)) ∈ lw_tbl := lw_at lw_m5 121 rfl
theorem q1239 : (Jvm.Cond.instanceMethod ({ cls := "MendedThings$Reader", name := "sumOnce", desc := "(LMendedThings$Value;II)LMendedThings$Value;" } : Jvm.MethodName)) ∈ lw_all := lw_g (lw_at lw_m5 122 rfl) rfl
theorem q1240 : (Jvm.Cond.code ({ cls := "MendedThings$Reader", name := "sumOnce", desc := "(LMendedThings$Value;II)LMendedThings$Value;" } : Jvm.MethodName) prog_16_method_17_code (4 : Nat) (Option.some (Jvm.ClassFile.FieldType.object "MendedThings$Value"))) ∈ lw_all := lw_g (lw_at lw_m5 123 rfl) rfl
theorem q1627 : (Jvm.Cond.instanceMethod ({ cls := "MendedThings$Reader", name := "question", desc := "(I)LMendedThings$Question;" } : Jvm.MethodName)) ∈ lw_all := lw_g (lw_at lw_m7 30 rfl) rfl
theorem q1628 : (Jvm.Cond.selects "MendedThings$Reader" ({ cls := "MendedThings$Reader", name := "question", desc := "(I)LMendedThings$Question;" } : Jvm.MethodName) ({ cls := "MendedThings$Reader", name := "question", desc := "(I)LMendedThings$Question;" } : Jvm.MethodName)) ∈ lw_all := lw_g (lw_at lw_m7 31 rfl) rfl
theorem q1629 : (Jvm.Cond.code ({ cls := "MendedThings$Reader", name := "question", desc := "(I)LMendedThings$Question;" } : Jvm.MethodName) prog_16_method_30_code (4 : Nat) (Option.some (Jvm.ClassFile.FieldType.object "MendedThings$Question"))) ∈ lw_all := lw_g (lw_at lw_m7 32 rfl) rfl
theorem q1630 : (Jvm.Cond.fieldLinkNest "MendedThings$Reader" (334 : Nat) "MendedThings" "TOLD_OF" "[Ljava/lang/String;" "MendedThings") ∈ lw_tbl := lw_at lw_m7 33 rfl
theorem q1632 : (Jvm.Cond.classLink "MendedThings$Reader" (337 : Nat) "MendedThings$Question") ∈ lw_all := lw_g (lw_at lw_m7 35 rfl) rfl
theorem q1634 : (Jvm.Cond.methodLink "MendedThings$Reader" (339 : Nat) ({ cls := "MendedThings$Question", name := "<init>", desc := "(ILMendedThings$Test;LMendedThings$Value;)V" } : Jvm.MethodName)) ∈ lw_all := lw_g (lw_at lw_m7 37 rfl) rfl
theorem q2590 : (Jvm.Cond.castable "MendedThings$Reader" "java/lang/Object") ∈ lw_tbl := lw_at lw_m11 33 rfl
theorem in_X2 : ∀ w ∈ wsX20, w ∈ lw_all := lw_in wsX20 [372, 374, 376, 378, 380, 382, 384, 386] (by decide +kernel) (by decide +kernel)
