/-! MendedThings -/
set_option maxRecDepth 100000
def RX0 : String := "MendedThings"
def TX0 : u_T := fun k => match k with
  | 0 => ("MendedThings", "island", "LMendedThings$Island;", false)
  | 1 => ("MendedThings", "tape", "[B", true)
  | 2 => ("MendedThings", "taped", "I", false)
  | 3 => ("MendedThings", "faultKind", "I", false)
  | 4 => ("MendedThings", "faultPlace", "I", false)
  | 5 => ("MendedThings", "reader", "LMendedThings$Reader;", true)
  | 6 => ("MendedThings", "moment", "LMendedThings$Moment;", true)
  | 7 => ("MendedThings", "asked", "LMendedThings$Moment;", true)
  | 8 => ("MendedThings", "refused", "[I", true)
  | 9 => ("MendedThings", "now", "LMendedThings$State;", true)
  | 10 => ("MendedThings", "tried", "LMendedThings$State;", true)
  | 11 => ("MendedThings", "placed", "[I", true)
  | 12 => ("MendedThings", "bestPlaced", "[I", true)
  | 13 => ("MendedThings", "leastCost", "I", false)
  | 14 => ("MendedThings", "kept", "[LMendedThings$State;", true)
  | 15 => ("MendedThings", "undos", "I", false)
  | 16 => ("MendedThings", "seeds", "J", false)
  | 17 => ("MendedThings", "askedThing", "I", false)
  | 18 => ("MendedThings", "out", "[B", true)
  | _ => ("MendedThings", "outs", "I", false)
def tyX0 : Nat → FieldType := fun k => match k with
  | 0 => .object "MendedThings$Island"
  | 1 => .array .byte
  | 2 => .int
  | 3 => .int
  | 4 => .int
  | 5 => .object "MendedThings$Reader"
  | 6 => .object "MendedThings$Moment"
  | 7 => .object "MendedThings$Moment"
  | 8 => .array .int
  | 9 => .object "MendedThings$State"
  | 10 => .object "MendedThings$State"
  | 11 => .array .int
  | 12 => .array .int
  | 13 => .int
  | 14 => .array (.object "MendedThings$State")
  | 15 => .int
  | 16 => .long
  | 17 => .int
  | 18 => .array .byte
  | _ => .int
abbrev wsX00 : List Cond := u_ws RX0 TX0 20
set_option maxRecDepth 100000 in
theorem nmX0 : ∀ a, a < 20 → ∀ b, b < 20 → a ≠ b → (TX0 a).2.1 ≠ (TX0 b).2.1 := by decide +kernel
set_option maxRecDepth 100000 in
theorem tyX0_ok : ∀ k, k < 20 → parseFieldDescriptor (TX0 k).2.2.1 = some (tyX0 k) := by decide +kernel
abbrev cX0_init : ByteArray := prog_1_method_7_code
def yX0_init : MethodName := ⟨RX0, "<init>", "()V"⟩
def dkwX0_init_7 : List UInt8 := [16, 43, 188, 8, 181, 0, 95, 177]
abbrev dktX0_init_7 : List UInt8 := dkwX0_init_7 ++ []
def dkwX0_init_6 : List UInt8 := [183, 0, 70, 83, 132, 1, 1, 167, 255, 233, 42, 180, 0, 71, 182, 0, 88, 42, 10, 181, 0, 91, 42]
abbrev dktX0_init_6 : List UInt8 := dkwX0_init_6 ++ dktX0_init_7
def dkwX0_init_5 : List UInt8 := [189, 0, 68, 181, 0, 84, 3, 60, 27, 16, 20, 162, 0, 23, 42, 180, 0, 84, 27, 187, 0, 68, 89, 42]
abbrev dktX0_init_5 : List UInt8 := dkwX0_init_5 ++ dktX0_init_6
def dkwX0_init_4 : List UInt8 := [181, 0, 75, 42, 16, 6, 188, 10, 181, 0, 78, 42, 16, 6, 188, 10, 181, 0, 81, 42, 16, 20]
abbrev dktX0_init_4 : List UInt8 := dkwX0_init_4 ++ dktX0_init_5
def dkwX0_init_3 : List UInt8 := [181, 0, 64, 42, 187, 0, 68, 89, 42, 183, 0, 70, 181, 0, 71, 42, 187, 0, 68, 89, 42, 183, 0, 70]
abbrev dktX0_init_3 : List UInt8 := dkwX0_init_3 ++ dktX0_init_4
def dkwX0_init_2 : List UInt8 := [183, 0, 56, 181, 0, 57, 42, 187, 0, 54, 89, 183, 0, 56, 181, 0, 61, 42, 16, 6, 188, 10]
abbrev dktX0_init_2 : List UInt8 := dkwX0_init_2 ++ dktX0_init_3
def dkwX0_init_1 : List UInt8 := [42, 2, 181, 0, 41, 42, 187, 0, 45, 89, 42, 183, 0, 47, 181, 0, 50, 42, 187, 0, 54, 89]
abbrev dktX0_init_1 : List UInt8 := dkwX0_init_1 ++ dktX0_init_2
def dkwX0_init_0 : List UInt8 := [42, 183, 0, 24, 42, 187, 0, 30, 89, 183, 0, 32, 181, 0, 33, 42, 17, 6, 64, 188, 8, 181, 0, 37]
abbrev dktX0_init_0 : List UInt8 := dkwX0_init_0 ++ dktX0_init_1
theorem dksX0_init_0 : cX0_init.data.toList.drop 0 = dktX0_init_0 := by decide +kernel
theorem dksX0_init_1 : cX0_init.data.toList.drop 24 = dktX0_init_1 := dk_seg dksX0_init_0 24 rfl rfl
theorem dksX0_init_2 : cX0_init.data.toList.drop 46 = dktX0_init_2 := dk_seg dksX0_init_1 22 rfl rfl
theorem dksX0_init_3 : cX0_init.data.toList.drop 68 = dktX0_init_3 := dk_seg dksX0_init_2 22 rfl rfl
theorem dksX0_init_4 : cX0_init.data.toList.drop 92 = dktX0_init_4 := dk_seg dksX0_init_3 24 rfl rfl
theorem dksX0_init_5 : cX0_init.data.toList.drop 114 = dktX0_init_5 := dk_seg dksX0_init_4 22 rfl rfl
theorem dksX0_init_6 : cX0_init.data.toList.drop 138 = dktX0_init_6 := dk_seg dksX0_init_5 24 rfl rfl
theorem dksX0_init_7 : cX0_init.data.toList.drop 161 = dktX0_init_7 := dk_seg dksX0_init_6 23 rfl rfl
theorem dX0_init_0 : decode cX0_init 0 = .ok (.aload_n 0, 1) := dk_42 (dk_at dksX0_init_0 0 rfl rfl)
theorem dX0_init_1 : decode cX0_init 1 = .ok (.invokespecial 24, 3) := dk_183 0 24 (dk_at dksX0_init_0 1 rfl rfl)
theorem dX0_init_4 : decode cX0_init 4 = .ok (.aload_n 0, 1) := dk_42 (dk_at dksX0_init_0 4 rfl rfl)
theorem dX0_init_5 : decode cX0_init 5 = .ok (.new 30, 3) := dk_187 0 30 (dk_at dksX0_init_0 5 rfl rfl)
theorem dX0_init_8 : decode cX0_init 8 = .ok (.dup, 1) := dk_89 (dk_at dksX0_init_0 8 rfl rfl)
theorem dX0_init_9 : decode cX0_init 9 = .ok (.invokespecial 32, 3) := dk_183 0 32 (dk_at dksX0_init_0 9 rfl rfl)
theorem dX0_init_12 : decode cX0_init 12 = .ok (.putfield 33, 3) := dk_181 0 33 (dk_at dksX0_init_0 12 rfl rfl)
theorem dX0_init_15 : decode cX0_init 15 = .ok (.aload_n 0, 1) := dk_42 (dk_at dksX0_init_0 15 rfl rfl)
theorem dX0_init_16 : decode cX0_init 16 = .ok (.sipush 1600, 3) := dk_17 6 64 (dk_at dksX0_init_0 16 rfl rfl)
theorem dX0_init_19 : decode cX0_init 19 = .ok (.newarray .byte, 2) := dk_188_8 (dk_at dksX0_init_0 19 rfl rfl)
theorem dX0_init_21 : decode cX0_init 21 = .ok (.putfield 37, 3) := dk_181 0 37 (dk_at dksX0_init_0 21 rfl rfl)
theorem dX0_init_24 : decode cX0_init 24 = .ok (.aload_n 0, 1) := dk_42 (dk_at dksX0_init_1 0 rfl rfl)
theorem dX0_init_25 : decode cX0_init 25 = .ok (.iconst (-1), 1) := dk_2 (dk_at dksX0_init_1 1 rfl rfl)
theorem dX0_init_26 : decode cX0_init 26 = .ok (.putfield 41, 3) := dk_181 0 41 (dk_at dksX0_init_1 2 rfl rfl)
theorem dX0_init_29 : decode cX0_init 29 = .ok (.aload_n 0, 1) := dk_42 (dk_at dksX0_init_1 5 rfl rfl)
theorem dX0_init_30 : decode cX0_init 30 = .ok (.new 45, 3) := dk_187 0 45 (dk_at dksX0_init_1 6 rfl rfl)
theorem dX0_init_33 : decode cX0_init 33 = .ok (.dup, 1) := dk_89 (dk_at dksX0_init_1 9 rfl rfl)
theorem dX0_init_34 : decode cX0_init 34 = .ok (.aload_n 0, 1) := dk_42 (dk_at dksX0_init_1 10 rfl rfl)
theorem dX0_init_35 : decode cX0_init 35 = .ok (.invokespecial 47, 3) := dk_183 0 47 (dk_at dksX0_init_1 11 rfl rfl)
theorem dX0_init_38 : decode cX0_init 38 = .ok (.putfield 50, 3) := dk_181 0 50 (dk_at dksX0_init_1 14 rfl rfl)
theorem dX0_init_41 : decode cX0_init 41 = .ok (.aload_n 0, 1) := dk_42 (dk_at dksX0_init_1 17 rfl rfl)
theorem dX0_init_42 : decode cX0_init 42 = .ok (.new 54, 3) := dk_187 0 54 (dk_at dksX0_init_1 18 rfl rfl)
theorem dX0_init_45 : decode cX0_init 45 = .ok (.dup, 1) := dk_89 (dk_at dksX0_init_1 21 rfl rfl)
theorem dX0_init_46 : decode cX0_init 46 = .ok (.invokespecial 56, 3) := dk_183 0 56 (dk_at dksX0_init_2 0 rfl rfl)
theorem dX0_init_49 : decode cX0_init 49 = .ok (.putfield 57, 3) := dk_181 0 57 (dk_at dksX0_init_2 3 rfl rfl)
theorem dX0_init_52 : decode cX0_init 52 = .ok (.aload_n 0, 1) := dk_42 (dk_at dksX0_init_2 6 rfl rfl)
theorem dX0_init_53 : decode cX0_init 53 = .ok (.new 54, 3) := dk_187 0 54 (dk_at dksX0_init_2 7 rfl rfl)
theorem dX0_init_56 : decode cX0_init 56 = .ok (.dup, 1) := dk_89 (dk_at dksX0_init_2 10 rfl rfl)
theorem dX0_init_57 : decode cX0_init 57 = .ok (.invokespecial 56, 3) := dk_183 0 56 (dk_at dksX0_init_2 11 rfl rfl)
theorem dX0_init_60 : decode cX0_init 60 = .ok (.putfield 61, 3) := dk_181 0 61 (dk_at dksX0_init_2 14 rfl rfl)
theorem dX0_init_63 : decode cX0_init 63 = .ok (.aload_n 0, 1) := dk_42 (dk_at dksX0_init_2 17 rfl rfl)
theorem dX0_init_64 : decode cX0_init 64 = .ok (.bipush 6, 2) := dk_16 6 (dk_at dksX0_init_2 18 rfl rfl)
theorem dX0_init_66 : decode cX0_init 66 = .ok (.newarray .int, 2) := dk_188_10 (dk_at dksX0_init_2 20 rfl rfl)
theorem dX0_init_68 : decode cX0_init 68 = .ok (.putfield 64, 3) := dk_181 0 64 (dk_at dksX0_init_3 0 rfl rfl)
theorem dX0_init_71 : decode cX0_init 71 = .ok (.aload_n 0, 1) := dk_42 (dk_at dksX0_init_3 3 rfl rfl)
theorem dX0_init_72 : decode cX0_init 72 = .ok (.new 68, 3) := dk_187 0 68 (dk_at dksX0_init_3 4 rfl rfl)
theorem dX0_init_75 : decode cX0_init 75 = .ok (.dup, 1) := dk_89 (dk_at dksX0_init_3 7 rfl rfl)
theorem dX0_init_76 : decode cX0_init 76 = .ok (.aload_n 0, 1) := dk_42 (dk_at dksX0_init_3 8 rfl rfl)
theorem dX0_init_77 : decode cX0_init 77 = .ok (.invokespecial 70, 3) := dk_183 0 70 (dk_at dksX0_init_3 9 rfl rfl)
theorem dX0_init_80 : decode cX0_init 80 = .ok (.putfield 71, 3) := dk_181 0 71 (dk_at dksX0_init_3 12 rfl rfl)
theorem dX0_init_83 : decode cX0_init 83 = .ok (.aload_n 0, 1) := dk_42 (dk_at dksX0_init_3 15 rfl rfl)
theorem dX0_init_84 : decode cX0_init 84 = .ok (.new 68, 3) := dk_187 0 68 (dk_at dksX0_init_3 16 rfl rfl)
theorem dX0_init_87 : decode cX0_init 87 = .ok (.dup, 1) := dk_89 (dk_at dksX0_init_3 19 rfl rfl)
theorem dX0_init_88 : decode cX0_init 88 = .ok (.aload_n 0, 1) := dk_42 (dk_at dksX0_init_3 20 rfl rfl)
theorem dX0_init_89 : decode cX0_init 89 = .ok (.invokespecial 70, 3) := dk_183 0 70 (dk_at dksX0_init_3 21 rfl rfl)
theorem dX0_init_92 : decode cX0_init 92 = .ok (.putfield 75, 3) := dk_181 0 75 (dk_at dksX0_init_4 0 rfl rfl)
theorem dX0_init_95 : decode cX0_init 95 = .ok (.aload_n 0, 1) := dk_42 (dk_at dksX0_init_4 3 rfl rfl)
theorem dX0_init_96 : decode cX0_init 96 = .ok (.bipush 6, 2) := dk_16 6 (dk_at dksX0_init_4 4 rfl rfl)
theorem dX0_init_98 : decode cX0_init 98 = .ok (.newarray .int, 2) := dk_188_10 (dk_at dksX0_init_4 6 rfl rfl)
theorem dX0_init_100 : decode cX0_init 100 = .ok (.putfield 78, 3) := dk_181 0 78 (dk_at dksX0_init_4 8 rfl rfl)
theorem dX0_init_103 : decode cX0_init 103 = .ok (.aload_n 0, 1) := dk_42 (dk_at dksX0_init_4 11 rfl rfl)
theorem dX0_init_104 : decode cX0_init 104 = .ok (.bipush 6, 2) := dk_16 6 (dk_at dksX0_init_4 12 rfl rfl)
theorem dX0_init_106 : decode cX0_init 106 = .ok (.newarray .int, 2) := dk_188_10 (dk_at dksX0_init_4 14 rfl rfl)
theorem dX0_init_108 : decode cX0_init 108 = .ok (.putfield 81, 3) := dk_181 0 81 (dk_at dksX0_init_4 16 rfl rfl)
theorem dX0_init_111 : decode cX0_init 111 = .ok (.aload_n 0, 1) := dk_42 (dk_at dksX0_init_4 19 rfl rfl)
theorem dX0_init_112 : decode cX0_init 112 = .ok (.bipush 20, 2) := dk_16 20 (dk_at dksX0_init_4 20 rfl rfl)
theorem dX0_init_114 : decode cX0_init 114 = .ok (.anewarray 68, 3) := dk_189 0 68 (dk_at dksX0_init_5 0 rfl rfl)
theorem dX0_init_117 : decode cX0_init 117 = .ok (.putfield 84, 3) := dk_181 0 84 (dk_at dksX0_init_5 3 rfl rfl)
theorem dX0_init_120 : decode cX0_init 120 = .ok (.iconst 0, 1) := dk_3 (dk_at dksX0_init_5 6 rfl rfl)
theorem dX0_init_121 : decode cX0_init 121 = .ok (.istore_n 1, 1) := dk_60 (dk_at dksX0_init_5 7 rfl rfl)
theorem dX0_init_122 : decode cX0_init 122 = .ok (.iload_n 1, 1) := dk_27 (dk_at dksX0_init_5 8 rfl rfl)
theorem dX0_init_123 : decode cX0_init 123 = .ok (.bipush 20, 2) := dk_16 20 (dk_at dksX0_init_5 9 rfl rfl)
theorem dX0_init_125 : decode cX0_init 125 = .ok (.if_icmp .ge 23, 3) := dk_162 0 23 (dk_at dksX0_init_5 11 rfl rfl)
theorem dX0_init_128 : decode cX0_init 128 = .ok (.aload_n 0, 1) := dk_42 (dk_at dksX0_init_5 14 rfl rfl)
theorem dX0_init_129 : decode cX0_init 129 = .ok (.getfield 84, 3) := dk_180 0 84 (dk_at dksX0_init_5 15 rfl rfl)
theorem dX0_init_132 : decode cX0_init 132 = .ok (.iload_n 1, 1) := dk_27 (dk_at dksX0_init_5 18 rfl rfl)
theorem dX0_init_133 : decode cX0_init 133 = .ok (.new 68, 3) := dk_187 0 68 (dk_at dksX0_init_5 19 rfl rfl)
theorem dX0_init_136 : decode cX0_init 136 = .ok (.dup, 1) := dk_89 (dk_at dksX0_init_5 22 rfl rfl)
theorem dX0_init_137 : decode cX0_init 137 = .ok (.aload_n 0, 1) := dk_42 (dk_at dksX0_init_5 23 rfl rfl)
theorem dX0_init_138 : decode cX0_init 138 = .ok (.invokespecial 70, 3) := dk_183 0 70 (dk_at dksX0_init_6 0 rfl rfl)
theorem dX0_init_141 : decode cX0_init 141 = .ok (.aastore, 1) := dk_83 (dk_at dksX0_init_6 3 rfl rfl)
theorem dX0_init_142 : decode cX0_init 142 = .ok (.iinc 1 1, 3) := dk_132 1 1 (dk_at dksX0_init_6 4 rfl rfl)
theorem dX0_init_145 : decode cX0_init 145 = .ok (.goto (-23), 3) := dk_167 255 233 (dk_at dksX0_init_6 7 rfl rfl)
theorem dX0_init_148 : decode cX0_init 148 = .ok (.aload_n 0, 1) := dk_42 (dk_at dksX0_init_6 10 rfl rfl)
theorem dX0_init_149 : decode cX0_init 149 = .ok (.getfield 71, 3) := dk_180 0 71 (dk_at dksX0_init_6 11 rfl rfl)
theorem dX0_init_152 : decode cX0_init 152 = .ok (.invokevirtual 88, 3) := dk_182 0 88 (dk_at dksX0_init_6 14 rfl rfl)
theorem dX0_init_155 : decode cX0_init 155 = .ok (.aload_n 0, 1) := dk_42 (dk_at dksX0_init_6 17 rfl rfl)
theorem dX0_init_156 : decode cX0_init 156 = .ok (.lconst 1, 1) := dk_10 (dk_at dksX0_init_6 18 rfl rfl)
theorem dX0_init_157 : decode cX0_init 157 = .ok (.putfield 91, 3) := dk_181 0 91 (dk_at dksX0_init_6 19 rfl rfl)
theorem dX0_init_160 : decode cX0_init 160 = .ok (.aload_n 0, 1) := dk_42 (dk_at dksX0_init_6 22 rfl rfl)
theorem dX0_init_161 : decode cX0_init 161 = .ok (.bipush 43, 2) := dk_16 43 (dk_at dksX0_init_7 0 rfl rfl)
theorem dX0_init_163 : decode cX0_init 163 = .ok (.newarray .byte, 2) := dk_188_8 (dk_at dksX0_init_7 2 rfl rfl)
theorem dX0_init_165 : decode cX0_init 165 = .ok (.putfield 95, 3) := dk_181 0 95 (dk_at dksX0_init_7 4 rfl rfl)
theorem dX0_init_168 : decode cX0_init 168 = .ok (.return_, 1) := dk_177 (dk_at dksX0_init_7 7 rfl rfl)
abbrev cX0_feed : ByteArray := prog_1_method_10_code
def yX0_feed : MethodName := ⟨RX0, "feed", "(IIIII)I"⟩
def dkwX0_feed_2 : List UInt8 := [180, 0, 98, 172]
abbrev dktX0_feed_2 : List UInt8 := dkwX0_feed_2 ++ []
def dkwX0_feed_1 : List UInt8 := [42, 28, 182, 0, 105, 42, 29, 182, 0, 105, 42, 21, 4, 182, 0, 105, 42, 21, 5, 182, 0, 105, 42]
abbrev dktX0_feed_1 : List UInt8 := dkwX0_feed_1 ++ dktX0_feed_2
def dkwX0_feed_0 : List UInt8 := [42, 180, 0, 98, 16, 20, 96, 17, 6, 64, 164, 0, 9, 42, 3, 182, 0, 101, 172, 42, 27, 182, 0, 105]
abbrev dktX0_feed_0 : List UInt8 := dkwX0_feed_0 ++ dktX0_feed_1
theorem dksX0_feed_0 : cX0_feed.data.toList.drop 0 = dktX0_feed_0 := by decide +kernel
theorem dksX0_feed_1 : cX0_feed.data.toList.drop 24 = dktX0_feed_1 := dk_seg dksX0_feed_0 24 rfl rfl
theorem dksX0_feed_2 : cX0_feed.data.toList.drop 47 = dktX0_feed_2 := dk_seg dksX0_feed_1 23 rfl rfl
theorem dX0_feed_0 : decode cX0_feed 0 = .ok (.aload_n 0, 1) := dk_42 (dk_at dksX0_feed_0 0 rfl rfl)
theorem dX0_feed_1 : decode cX0_feed 1 = .ok (.getfield 98, 3) := dk_180 0 98 (dk_at dksX0_feed_0 1 rfl rfl)
theorem dX0_feed_4 : decode cX0_feed 4 = .ok (.bipush 20, 2) := dk_16 20 (dk_at dksX0_feed_0 4 rfl rfl)
theorem dX0_feed_6 : decode cX0_feed 6 = .ok (.iadd, 1) := dk_96 (dk_at dksX0_feed_0 6 rfl rfl)
theorem dX0_feed_7 : decode cX0_feed 7 = .ok (.sipush 1600, 3) := dk_17 6 64 (dk_at dksX0_feed_0 7 rfl rfl)
theorem dX0_feed_10 : decode cX0_feed 10 = .ok (.if_icmp .le 9, 3) := dk_164 0 9 (dk_at dksX0_feed_0 10 rfl rfl)
theorem dX0_feed_13 : decode cX0_feed 13 = .ok (.aload_n 0, 1) := dk_42 (dk_at dksX0_feed_0 13 rfl rfl)
theorem dX0_feed_14 : decode cX0_feed 14 = .ok (.iconst 0, 1) := dk_3 (dk_at dksX0_feed_0 14 rfl rfl)
theorem dX0_feed_15 : decode cX0_feed 15 = .ok (.invokevirtual 101, 3) := dk_182 0 101 (dk_at dksX0_feed_0 15 rfl rfl)
theorem dX0_feed_18 : decode cX0_feed 18 = .ok (.ireturn, 1) := dk_172 (dk_at dksX0_feed_0 18 rfl rfl)
theorem dX0_feed_19 : decode cX0_feed 19 = .ok (.aload_n 0, 1) := dk_42 (dk_at dksX0_feed_0 19 rfl rfl)
theorem dX0_feed_20 : decode cX0_feed 20 = .ok (.iload_n 1, 1) := dk_27 (dk_at dksX0_feed_0 20 rfl rfl)
theorem dX0_feed_21 : decode cX0_feed 21 = .ok (.invokevirtual 105, 3) := dk_182 0 105 (dk_at dksX0_feed_0 21 rfl rfl)
theorem dX0_feed_24 : decode cX0_feed 24 = .ok (.aload_n 0, 1) := dk_42 (dk_at dksX0_feed_1 0 rfl rfl)
theorem dX0_feed_25 : decode cX0_feed 25 = .ok (.iload_n 2, 1) := dk_28 (dk_at dksX0_feed_1 1 rfl rfl)
theorem dX0_feed_26 : decode cX0_feed 26 = .ok (.invokevirtual 105, 3) := dk_182 0 105 (dk_at dksX0_feed_1 2 rfl rfl)
theorem dX0_feed_29 : decode cX0_feed 29 = .ok (.aload_n 0, 1) := dk_42 (dk_at dksX0_feed_1 5 rfl rfl)
theorem dX0_feed_30 : decode cX0_feed 30 = .ok (.iload_n 3, 1) := dk_29 (dk_at dksX0_feed_1 6 rfl rfl)
theorem dX0_feed_31 : decode cX0_feed 31 = .ok (.invokevirtual 105, 3) := dk_182 0 105 (dk_at dksX0_feed_1 7 rfl rfl)
theorem dX0_feed_34 : decode cX0_feed 34 = .ok (.aload_n 0, 1) := dk_42 (dk_at dksX0_feed_1 10 rfl rfl)
theorem dX0_feed_35 : decode cX0_feed 35 = .ok (.iload 4, 2) := dk_21 4 (dk_at dksX0_feed_1 11 rfl rfl)
theorem dX0_feed_37 : decode cX0_feed 37 = .ok (.invokevirtual 105, 3) := dk_182 0 105 (dk_at dksX0_feed_1 13 rfl rfl)
theorem dX0_feed_40 : decode cX0_feed 40 = .ok (.aload_n 0, 1) := dk_42 (dk_at dksX0_feed_1 16 rfl rfl)
theorem dX0_feed_41 : decode cX0_feed 41 = .ok (.iload 5, 2) := dk_21 5 (dk_at dksX0_feed_1 17 rfl rfl)
theorem dX0_feed_43 : decode cX0_feed 43 = .ok (.invokevirtual 105, 3) := dk_182 0 105 (dk_at dksX0_feed_1 19 rfl rfl)
theorem dX0_feed_46 : decode cX0_feed 46 = .ok (.aload_n 0, 1) := dk_42 (dk_at dksX0_feed_1 22 rfl rfl)
theorem dX0_feed_47 : decode cX0_feed 47 = .ok (.getfield 98, 3) := dk_180 0 98 (dk_at dksX0_feed_2 0 rfl rfl)
theorem dX0_feed_50 : decode cX0_feed 50 = .ok (.ireturn, 1) := dk_172 (dk_at dksX0_feed_2 3 rfl rfl)
abbrev cX0_refuses : ByteArray := prog_1_method_8_code
def yX0_refuses : MethodName := ⟨RX0, "refuses", "(I)I"⟩
def dkwX0_refuses_0 : List UInt8 := [42, 180, 0, 64, 27, 92, 46, 4, 96, 79, 2, 172]
abbrev dktX0_refuses_0 : List UInt8 := dkwX0_refuses_0 ++ []
theorem dksX0_refuses_0 : cX0_refuses.data.toList.drop 0 = dktX0_refuses_0 := by decide +kernel
theorem dX0_refuses_0 : decode cX0_refuses 0 = .ok (.aload_n 0, 1) := dk_42 (dk_at dksX0_refuses_0 0 rfl rfl)
theorem dX0_refuses_1 : decode cX0_refuses 1 = .ok (.getfield 64, 3) := dk_180 0 64 (dk_at dksX0_refuses_0 1 rfl rfl)
theorem dX0_refuses_4 : decode cX0_refuses 4 = .ok (.iload_n 1, 1) := dk_27 (dk_at dksX0_refuses_0 4 rfl rfl)
theorem dX0_refuses_5 : decode cX0_refuses 5 = .ok (.dup2, 1) := dk_92 (dk_at dksX0_refuses_0 5 rfl rfl)
theorem dX0_refuses_6 : decode cX0_refuses 6 = .ok (.iaload, 1) := dk_46 (dk_at dksX0_refuses_0 6 rfl rfl)
theorem dX0_refuses_7 : decode cX0_refuses 7 = .ok (.iconst 1, 1) := dk_4 (dk_at dksX0_refuses_0 7 rfl rfl)
theorem dX0_refuses_8 : decode cX0_refuses 8 = .ok (.iadd, 1) := dk_96 (dk_at dksX0_refuses_0 8 rfl rfl)
theorem dX0_refuses_9 : decode cX0_refuses 9 = .ok (.iastore, 1) := dk_79 (dk_at dksX0_refuses_0 9 rfl rfl)
theorem dX0_refuses_10 : decode cX0_refuses 10 = .ok (.iconst (-1), 1) := dk_2 (dk_at dksX0_refuses_0 10 rfl rfl)
theorem dX0_refuses_11 : decode cX0_refuses 11 = .ok (.ireturn, 1) := dk_172 (dk_at dksX0_refuses_0 11 rfl rfl)
abbrev cX0_put : ByteArray := prog_1_method_9_code
def yX0_put : MethodName := ⟨RX0, "put", "(I)V"⟩
def dkwX0_put_1 : List UInt8 := [122, 145, 84, 132, 2, 248, 167, 255, 229, 177]
abbrev dktX0_put_1 : List UInt8 := dkwX0_put_1 ++ []
def dkwX0_put_0 : List UInt8 := [16, 24, 61, 28, 155, 0, 29, 42, 180, 0, 37, 42, 89, 180, 0, 98, 90, 4, 96, 181, 0, 98, 27, 28]
abbrev dktX0_put_0 : List UInt8 := dkwX0_put_0 ++ dktX0_put_1
theorem dksX0_put_0 : cX0_put.data.toList.drop 0 = dktX0_put_0 := by decide +kernel
theorem dksX0_put_1 : cX0_put.data.toList.drop 24 = dktX0_put_1 := dk_seg dksX0_put_0 24 rfl rfl
theorem dX0_put_0 : decode cX0_put 0 = .ok (.bipush 24, 2) := dk_16 24 (dk_at dksX0_put_0 0 rfl rfl)
theorem dX0_put_2 : decode cX0_put 2 = .ok (.istore_n 2, 1) := dk_61 (dk_at dksX0_put_0 2 rfl rfl)
theorem dX0_put_3 : decode cX0_put 3 = .ok (.iload_n 2, 1) := dk_28 (dk_at dksX0_put_0 3 rfl rfl)
theorem dX0_put_4 : decode cX0_put 4 = .ok (.ifCond .lt 29, 3) := dk_155 0 29 (dk_at dksX0_put_0 4 rfl rfl)
theorem dX0_put_7 : decode cX0_put 7 = .ok (.aload_n 0, 1) := dk_42 (dk_at dksX0_put_0 7 rfl rfl)
theorem dX0_put_8 : decode cX0_put 8 = .ok (.getfield 37, 3) := dk_180 0 37 (dk_at dksX0_put_0 8 rfl rfl)
theorem dX0_put_11 : decode cX0_put 11 = .ok (.aload_n 0, 1) := dk_42 (dk_at dksX0_put_0 11 rfl rfl)
theorem dX0_put_12 : decode cX0_put 12 = .ok (.dup, 1) := dk_89 (dk_at dksX0_put_0 12 rfl rfl)
theorem dX0_put_13 : decode cX0_put 13 = .ok (.getfield 98, 3) := dk_180 0 98 (dk_at dksX0_put_0 13 rfl rfl)
theorem dX0_put_16 : decode cX0_put 16 = .ok (.dup_x1, 1) := dk_90 (dk_at dksX0_put_0 16 rfl rfl)
theorem dX0_put_17 : decode cX0_put 17 = .ok (.iconst 1, 1) := dk_4 (dk_at dksX0_put_0 17 rfl rfl)
theorem dX0_put_18 : decode cX0_put 18 = .ok (.iadd, 1) := dk_96 (dk_at dksX0_put_0 18 rfl rfl)
theorem dX0_put_19 : decode cX0_put 19 = .ok (.putfield 98, 3) := dk_181 0 98 (dk_at dksX0_put_0 19 rfl rfl)
theorem dX0_put_22 : decode cX0_put 22 = .ok (.iload_n 1, 1) := dk_27 (dk_at dksX0_put_0 22 rfl rfl)
theorem dX0_put_23 : decode cX0_put 23 = .ok (.iload_n 2, 1) := dk_28 (dk_at dksX0_put_0 23 rfl rfl)
theorem dX0_put_24 : decode cX0_put 24 = .ok (.ishr, 1) := dk_122 (dk_at dksX0_put_1 0 rfl rfl)
theorem dX0_put_25 : decode cX0_put 25 = .ok (.i2b, 1) := dk_145 (dk_at dksX0_put_1 1 rfl rfl)
theorem dX0_put_26 : decode cX0_put 26 = .ok (.bastore, 1) := dk_84 (dk_at dksX0_put_1 2 rfl rfl)
theorem dX0_put_27 : decode cX0_put 27 = .ok (.iinc 2 (-8), 3) := dk_132 2 248 (dk_at dksX0_put_1 3 rfl rfl)
theorem dX0_put_30 : decode cX0_put 30 = .ok (.goto (-27), 3) := dk_167 255 229 (dk_at dksX0_put_1 6 rfl rfl)
theorem dX0_put_33 : decode cX0_put 33 = .ok (.return_, 1) := dk_177 (dk_at dksX0_put_1 9 rfl rfl)
abbrev cX0_end : ByteArray := prog_1_method_11_code
def yX0_end : MethodName := ⟨RX0, "end", "(I)Z"⟩
def dkwX0_end_1 : List UInt8 := [3, 172, 42, 27, 181, 0, 98, 4, 172]
abbrev dktX0_end_1 : List UInt8 := dkwX0_end_1 ++ []
def dkwX0_end_0 : List UInt8 := [27, 155, 0, 11, 27, 42, 180, 0, 98, 164, 0, 17, 42, 3, 182, 0, 101, 155, 0, 7, 4, 167, 0, 4]
abbrev dktX0_end_0 : List UInt8 := dkwX0_end_0 ++ dktX0_end_1
theorem dksX0_end_0 : cX0_end.data.toList.drop 0 = dktX0_end_0 := by decide +kernel
theorem dksX0_end_1 : cX0_end.data.toList.drop 24 = dktX0_end_1 := dk_seg dksX0_end_0 24 rfl rfl
theorem dX0_end_0 : decode cX0_end 0 = .ok (.iload_n 1, 1) := dk_27 (dk_at dksX0_end_0 0 rfl rfl)
theorem dX0_end_1 : decode cX0_end 1 = .ok (.ifCond .lt 11, 3) := dk_155 0 11 (dk_at dksX0_end_0 1 rfl rfl)
theorem dX0_end_4 : decode cX0_end 4 = .ok (.iload_n 1, 1) := dk_27 (dk_at dksX0_end_0 4 rfl rfl)
theorem dX0_end_5 : decode cX0_end 5 = .ok (.aload_n 0, 1) := dk_42 (dk_at dksX0_end_0 5 rfl rfl)
theorem dX0_end_6 : decode cX0_end 6 = .ok (.getfield 98, 3) := dk_180 0 98 (dk_at dksX0_end_0 6 rfl rfl)
theorem dX0_end_9 : decode cX0_end 9 = .ok (.if_icmp .le 17, 3) := dk_164 0 17 (dk_at dksX0_end_0 9 rfl rfl)
theorem dX0_end_12 : decode cX0_end 12 = .ok (.aload_n 0, 1) := dk_42 (dk_at dksX0_end_0 12 rfl rfl)
theorem dX0_end_13 : decode cX0_end 13 = .ok (.iconst 0, 1) := dk_3 (dk_at dksX0_end_0 13 rfl rfl)
theorem dX0_end_14 : decode cX0_end 14 = .ok (.invokevirtual 101, 3) := dk_182 0 101 (dk_at dksX0_end_0 14 rfl rfl)
theorem dX0_end_17 : decode cX0_end 17 = .ok (.ifCond .lt 7, 3) := dk_155 0 7 (dk_at dksX0_end_0 17 rfl rfl)
theorem dX0_end_20 : decode cX0_end 20 = .ok (.iconst 1, 1) := dk_4 (dk_at dksX0_end_0 20 rfl rfl)
theorem dX0_end_21 : decode cX0_end 21 = .ok (.goto 4, 3) := dk_167 0 4 (dk_at dksX0_end_0 21 rfl rfl)
theorem dX0_end_24 : decode cX0_end 24 = .ok (.iconst 0, 1) := dk_3 (dk_at dksX0_end_1 0 rfl rfl)
theorem dX0_end_25 : decode cX0_end 25 = .ok (.ireturn, 1) := dk_172 (dk_at dksX0_end_1 1 rfl rfl)
theorem dX0_end_26 : decode cX0_end 26 = .ok (.aload_n 0, 1) := dk_42 (dk_at dksX0_end_1 2 rfl rfl)
theorem dX0_end_27 : decode cX0_end 27 = .ok (.iload_n 1, 1) := dk_27 (dk_at dksX0_end_1 3 rfl rfl)
theorem dX0_end_28 : decode cX0_end 28 = .ok (.putfield 98, 3) := dk_181 0 98 (dk_at dksX0_end_1 4 rfl rfl)
theorem dX0_end_31 : decode cX0_end 31 = .ok (.iconst 1, 1) := dk_4 (dk_at dksX0_end_1 7 rfl rfl)
theorem dX0_end_32 : decode cX0_end 32 = .ok (.ireturn, 1) := dk_172 (dk_at dksX0_end_1 8 rfl rfl)
abbrev cX0_island : ByteArray := prog_1_method_13_code
def yX0_island : MethodName := ⟨RX0, "island", "()I"⟩
def dkwX0_island_3 : List UInt8 := [172]
abbrev dktX0_island_3 : List UInt8 := dkwX0_island_3 ++ []
def dkwX0_island_2 : List UInt8 := [4, 182, 0, 101, 172, 42, 180, 0, 71, 182, 0, 88, 42, 3, 181, 0, 128, 42, 180, 0, 33, 180, 0, 131]
abbrev dktX0_island_2 : List UInt8 := dkwX0_island_2 ++ dktX0_island_3
def dkwX0_island_1 : List UInt8 := [181, 0, 33, 167, 0, 26, 76, 42, 43, 180, 0, 122, 181, 0, 109, 42, 43, 180, 0, 125, 181, 0, 41, 42]
abbrev dktX0_island_1 : List UInt8 := dkwX0_island_1 ++ dktX0_island_2
def dkwX0_island_0 : List UInt8 := [42, 3, 181, 0, 109, 42, 2, 181, 0, 41, 42, 42, 180, 0, 50, 42, 182, 0, 112, 182, 0, 116]
abbrev dktX0_island_0 : List UInt8 := dkwX0_island_0 ++ dktX0_island_1
theorem dksX0_island_0 : cX0_island.data.toList.drop 0 = dktX0_island_0 := by decide +kernel
theorem dksX0_island_1 : cX0_island.data.toList.drop 22 = dktX0_island_1 := dk_seg dksX0_island_0 22 rfl rfl
theorem dksX0_island_2 : cX0_island.data.toList.drop 46 = dktX0_island_2 := dk_seg dksX0_island_1 24 rfl rfl
theorem dksX0_island_3 : cX0_island.data.toList.drop 70 = dktX0_island_3 := dk_seg dksX0_island_2 24 rfl rfl
theorem dX0_island_0 : decode cX0_island 0 = .ok (.aload_n 0, 1) := dk_42 (dk_at dksX0_island_0 0 rfl rfl)
theorem dX0_island_1 : decode cX0_island 1 = .ok (.iconst 0, 1) := dk_3 (dk_at dksX0_island_0 1 rfl rfl)
theorem dX0_island_2 : decode cX0_island 2 = .ok (.putfield 109, 3) := dk_181 0 109 (dk_at dksX0_island_0 2 rfl rfl)
theorem dX0_island_5 : decode cX0_island 5 = .ok (.aload_n 0, 1) := dk_42 (dk_at dksX0_island_0 5 rfl rfl)
theorem dX0_island_6 : decode cX0_island 6 = .ok (.iconst (-1), 1) := dk_2 (dk_at dksX0_island_0 6 rfl rfl)
theorem dX0_island_7 : decode cX0_island 7 = .ok (.putfield 41, 3) := dk_181 0 41 (dk_at dksX0_island_0 7 rfl rfl)
theorem dX0_island_10 : decode cX0_island 10 = .ok (.aload_n 0, 1) := dk_42 (dk_at dksX0_island_0 10 rfl rfl)
theorem dX0_island_11 : decode cX0_island 11 = .ok (.aload_n 0, 1) := dk_42 (dk_at dksX0_island_0 11 rfl rfl)
theorem dX0_island_12 : decode cX0_island 12 = .ok (.getfield 50, 3) := dk_180 0 50 (dk_at dksX0_island_0 12 rfl rfl)
theorem dX0_island_15 : decode cX0_island 15 = .ok (.aload_n 0, 1) := dk_42 (dk_at dksX0_island_0 15 rfl rfl)
theorem dX0_island_16 : decode cX0_island 16 = .ok (.invokevirtual 112, 3) := dk_182 0 112 (dk_at dksX0_island_0 16 rfl rfl)
theorem dX0_island_19 : decode cX0_island 19 = .ok (.invokevirtual 116, 3) := dk_182 0 116 (dk_at dksX0_island_0 19 rfl rfl)
theorem dX0_island_22 : decode cX0_island 22 = .ok (.putfield 33, 3) := dk_181 0 33 (dk_at dksX0_island_1 0 rfl rfl)
theorem dX0_island_25 : decode cX0_island 25 = .ok (.goto 26, 3) := dk_167 0 26 (dk_at dksX0_island_1 3 rfl rfl)
theorem dX0_island_28 : decode cX0_island 28 = .ok (.astore_n 1, 1) := dk_76 (dk_at dksX0_island_1 6 rfl rfl)
theorem dX0_island_29 : decode cX0_island 29 = .ok (.aload_n 0, 1) := dk_42 (dk_at dksX0_island_1 7 rfl rfl)
theorem dX0_island_30 : decode cX0_island 30 = .ok (.aload_n 1, 1) := dk_43 (dk_at dksX0_island_1 8 rfl rfl)
theorem dX0_island_31 : decode cX0_island 31 = .ok (.getfield 122, 3) := dk_180 0 122 (dk_at dksX0_island_1 9 rfl rfl)
theorem dX0_island_34 : decode cX0_island 34 = .ok (.putfield 109, 3) := dk_181 0 109 (dk_at dksX0_island_1 12 rfl rfl)
theorem dX0_island_37 : decode cX0_island 37 = .ok (.aload_n 0, 1) := dk_42 (dk_at dksX0_island_1 15 rfl rfl)
theorem dX0_island_38 : decode cX0_island 38 = .ok (.aload_n 1, 1) := dk_43 (dk_at dksX0_island_1 16 rfl rfl)
theorem dX0_island_39 : decode cX0_island 39 = .ok (.getfield 125, 3) := dk_180 0 125 (dk_at dksX0_island_1 17 rfl rfl)
theorem dX0_island_42 : decode cX0_island 42 = .ok (.putfield 41, 3) := dk_181 0 41 (dk_at dksX0_island_1 20 rfl rfl)
theorem dX0_island_45 : decode cX0_island 45 = .ok (.aload_n 0, 1) := dk_42 (dk_at dksX0_island_1 23 rfl rfl)
theorem dX0_island_46 : decode cX0_island 46 = .ok (.iconst 1, 1) := dk_4 (dk_at dksX0_island_2 0 rfl rfl)
theorem dX0_island_47 : decode cX0_island 47 = .ok (.invokevirtual 101, 3) := dk_182 0 101 (dk_at dksX0_island_2 1 rfl rfl)
theorem dX0_island_50 : decode cX0_island 50 = .ok (.ireturn, 1) := dk_172 (dk_at dksX0_island_2 4 rfl rfl)
theorem dX0_island_51 : decode cX0_island 51 = .ok (.aload_n 0, 1) := dk_42 (dk_at dksX0_island_2 5 rfl rfl)
theorem dX0_island_52 : decode cX0_island 52 = .ok (.getfield 71, 3) := dk_180 0 71 (dk_at dksX0_island_2 6 rfl rfl)
theorem dX0_island_55 : decode cX0_island 55 = .ok (.invokevirtual 88, 3) := dk_182 0 88 (dk_at dksX0_island_2 9 rfl rfl)
theorem dX0_island_58 : decode cX0_island 58 = .ok (.aload_n 0, 1) := dk_42 (dk_at dksX0_island_2 12 rfl rfl)
theorem dX0_island_59 : decode cX0_island 59 = .ok (.iconst 0, 1) := dk_3 (dk_at dksX0_island_2 13 rfl rfl)
theorem dX0_island_60 : decode cX0_island 60 = .ok (.putfield 128, 3) := dk_181 0 128 (dk_at dksX0_island_2 14 rfl rfl)
theorem dX0_island_63 : decode cX0_island 63 = .ok (.aload_n 0, 1) := dk_42 (dk_at dksX0_island_2 17 rfl rfl)
theorem dX0_island_64 : decode cX0_island 64 = .ok (.getfield 33, 3) := dk_180 0 33 (dk_at dksX0_island_2 18 rfl rfl)
theorem dX0_island_67 : decode cX0_island 67 = .ok (.getfield 131, 3) := dk_180 0 131 (dk_at dksX0_island_2 21 rfl rfl)
theorem dX0_island_70 : decode cX0_island 70 = .ok (.ireturn, 1) := dk_172 (dk_at dksX0_island_3 0 rfl rfl)
abbrev cX0_taken : ByteArray := prog_1_method_12_code
def yX0_taken : MethodName := ⟨RX0, "taken", "()I"⟩
def dkwX0_taken_0 : List UInt8 := [42, 180, 0, 98, 60, 42, 3, 181, 0, 98, 27, 172]
abbrev dktX0_taken_0 : List UInt8 := dkwX0_taken_0 ++ []
theorem dksX0_taken_0 : cX0_taken.data.toList.drop 0 = dktX0_taken_0 := by decide +kernel
theorem dX0_taken_0 : decode cX0_taken 0 = .ok (.aload_n 0, 1) := dk_42 (dk_at dksX0_taken_0 0 rfl rfl)
theorem dX0_taken_1 : decode cX0_taken 1 = .ok (.getfield 98, 3) := dk_180 0 98 (dk_at dksX0_taken_0 1 rfl rfl)
theorem dX0_taken_4 : decode cX0_taken 4 = .ok (.istore_n 1, 1) := dk_60 (dk_at dksX0_taken_0 4 rfl rfl)
theorem dX0_taken_5 : decode cX0_taken 5 = .ok (.aload_n 0, 1) := dk_42 (dk_at dksX0_taken_0 5 rfl rfl)
theorem dX0_taken_6 : decode cX0_taken 6 = .ok (.iconst 0, 1) := dk_3 (dk_at dksX0_taken_0 6 rfl rfl)
theorem dX0_taken_7 : decode cX0_taken 7 = .ok (.putfield 98, 3) := dk_181 0 98 (dk_at dksX0_taken_0 7 rfl rfl)
theorem dX0_taken_10 : decode cX0_taken 10 = .ok (.iload_n 1, 1) := dk_27 (dk_at dksX0_taken_0 10 rfl rfl)
theorem dX0_taken_11 : decode cX0_taken 11 = .ok (.ireturn, 1) := dk_172 (dk_at dksX0_taken_0 11 rfl rfl)
abbrev cX0_isLetter : ByteArray := prog_1_method_4_code
def yX0_isLetter : MethodName := ⟨RX0, "isLetter", "(I)Z"⟩
def dkwX0_isLetter_0 : List UInt8 := [26, 16, 97, 161, 0, 13, 26, 16, 122, 163, 0, 7, 4, 167, 0, 4, 3, 172]
abbrev dktX0_isLetter_0 : List UInt8 := dkwX0_isLetter_0 ++ []
theorem dksX0_isLetter_0 : cX0_isLetter.data.toList.drop 0 = dktX0_isLetter_0 := by decide +kernel
theorem dX0_isLetter_0 : decode cX0_isLetter 0 = .ok (.iload_n 0, 1) := dk_26 (dk_at dksX0_isLetter_0 0 rfl rfl)
theorem dX0_isLetter_1 : decode cX0_isLetter 1 = .ok (.bipush 97, 2) := dk_16 97 (dk_at dksX0_isLetter_0 1 rfl rfl)
theorem dX0_isLetter_3 : decode cX0_isLetter 3 = .ok (.if_icmp .lt 13, 3) := dk_161 0 13 (dk_at dksX0_isLetter_0 3 rfl rfl)
theorem dX0_isLetter_6 : decode cX0_isLetter 6 = .ok (.iload_n 0, 1) := dk_26 (dk_at dksX0_isLetter_0 6 rfl rfl)
theorem dX0_isLetter_7 : decode cX0_isLetter 7 = .ok (.bipush 122, 2) := dk_16 122 (dk_at dksX0_isLetter_0 7 rfl rfl)
theorem dX0_isLetter_9 : decode cX0_isLetter 9 = .ok (.if_icmp .gt 7, 3) := dk_163 0 7 (dk_at dksX0_isLetter_0 9 rfl rfl)
theorem dX0_isLetter_12 : decode cX0_isLetter 12 = .ok (.iconst 1, 1) := dk_4 (dk_at dksX0_isLetter_0 12 rfl rfl)
theorem dX0_isLetter_13 : decode cX0_isLetter 13 = .ok (.goto 4, 3) := dk_167 0 4 (dk_at dksX0_isLetter_0 13 rfl rfl)
theorem dX0_isLetter_16 : decode cX0_isLetter 16 = .ok (.iconst 0, 1) := dk_3 (dk_at dksX0_isLetter_0 16 rfl rfl)
theorem dX0_isLetter_17 : decode cX0_isLetter 17 = .ok (.ireturn, 1) := dk_172 (dk_at dksX0_isLetter_0 17 rfl rfl)
abbrev cX0_isDigit : ByteArray := prog_1_method_5_code
def yX0_isDigit : MethodName := ⟨RX0, "isDigit", "(I)Z"⟩
def dkwX0_isDigit_0 : List UInt8 := [26, 16, 48, 161, 0, 13, 26, 16, 57, 163, 0, 7, 4, 167, 0, 4, 3, 172]
abbrev dktX0_isDigit_0 : List UInt8 := dkwX0_isDigit_0 ++ []
theorem dksX0_isDigit_0 : cX0_isDigit.data.toList.drop 0 = dktX0_isDigit_0 := by decide +kernel
theorem dX0_isDigit_0 : decode cX0_isDigit 0 = .ok (.iload_n 0, 1) := dk_26 (dk_at dksX0_isDigit_0 0 rfl rfl)
theorem dX0_isDigit_1 : decode cX0_isDigit 1 = .ok (.bipush 48, 2) := dk_16 48 (dk_at dksX0_isDigit_0 1 rfl rfl)
theorem dX0_isDigit_3 : decode cX0_isDigit 3 = .ok (.if_icmp .lt 13, 3) := dk_161 0 13 (dk_at dksX0_isDigit_0 3 rfl rfl)
theorem dX0_isDigit_6 : decode cX0_isDigit 6 = .ok (.iload_n 0, 1) := dk_26 (dk_at dksX0_isDigit_0 6 rfl rfl)
theorem dX0_isDigit_7 : decode cX0_isDigit 7 = .ok (.bipush 57, 2) := dk_16 57 (dk_at dksX0_isDigit_0 7 rfl rfl)
theorem dX0_isDigit_9 : decode cX0_isDigit 9 = .ok (.if_icmp .gt 7, 3) := dk_163 0 7 (dk_at dksX0_isDigit_0 9 rfl rfl)
theorem dX0_isDigit_12 : decode cX0_isDigit 12 = .ok (.iconst 1, 1) := dk_4 (dk_at dksX0_isDigit_0 12 rfl rfl)
theorem dX0_isDigit_13 : decode cX0_isDigit 13 = .ok (.goto 4, 3) := dk_167 0 4 (dk_at dksX0_isDigit_0 13 rfl rfl)
theorem dX0_isDigit_16 : decode cX0_isDigit 16 = .ok (.iconst 0, 1) := dk_3 (dk_at dksX0_isDigit_0 16 rfl rfl)
theorem dX0_isDigit_17 : decode cX0_isDigit 17 = .ok (.ireturn, 1) := dk_172 (dk_at dksX0_isDigit_0 17 rfl rfl)
abbrev cX0_find : ByteArray := prog_1_method_6_code
def yX0_find : MethodName := ⟨RX0, "find", "(Ljava/lang/String;[Ljava/lang/String;)I"⟩
def dkwX0_find_1 : List UInt8 := [167, 255, 235, 2, 172]
abbrev dktX0_find_1 : List UInt8 := dkwX0_find_1 ++ []
def dkwX0_find_0 : List UInt8 := [3, 61, 28, 43, 190, 162, 0, 21, 43, 28, 50, 42, 182, 0, 18, 153, 0, 5, 28, 172, 132, 2, 1]
abbrev dktX0_find_0 : List UInt8 := dkwX0_find_0 ++ dktX0_find_1
theorem dksX0_find_0 : cX0_find.data.toList.drop 0 = dktX0_find_0 := by decide +kernel
theorem dksX0_find_1 : cX0_find.data.toList.drop 23 = dktX0_find_1 := dk_seg dksX0_find_0 23 rfl rfl
theorem dX0_find_0 : decode cX0_find 0 = .ok (.iconst 0, 1) := dk_3 (dk_at dksX0_find_0 0 rfl rfl)
theorem dX0_find_1 : decode cX0_find 1 = .ok (.istore_n 2, 1) := dk_61 (dk_at dksX0_find_0 1 rfl rfl)
theorem dX0_find_2 : decode cX0_find 2 = .ok (.iload_n 2, 1) := dk_28 (dk_at dksX0_find_0 2 rfl rfl)
theorem dX0_find_3 : decode cX0_find 3 = .ok (.aload_n 1, 1) := dk_43 (dk_at dksX0_find_0 3 rfl rfl)
theorem dX0_find_4 : decode cX0_find 4 = .ok (.arraylength, 1) := dk_190 (dk_at dksX0_find_0 4 rfl rfl)
theorem dX0_find_5 : decode cX0_find 5 = .ok (.if_icmp .ge 21, 3) := dk_162 0 21 (dk_at dksX0_find_0 5 rfl rfl)
theorem dX0_find_8 : decode cX0_find 8 = .ok (.aload_n 1, 1) := dk_43 (dk_at dksX0_find_0 8 rfl rfl)
theorem dX0_find_9 : decode cX0_find 9 = .ok (.iload_n 2, 1) := dk_28 (dk_at dksX0_find_0 9 rfl rfl)
theorem dX0_find_10 : decode cX0_find 10 = .ok (.aaload, 1) := dk_50 (dk_at dksX0_find_0 10 rfl rfl)
theorem dX0_find_11 : decode cX0_find 11 = .ok (.aload_n 0, 1) := dk_42 (dk_at dksX0_find_0 11 rfl rfl)
theorem dX0_find_12 : decode cX0_find 12 = .ok (.invokevirtual 18, 3) := dk_182 0 18 (dk_at dksX0_find_0 12 rfl rfl)
theorem dX0_find_15 : decode cX0_find 15 = .ok (.ifCond .eq 5, 3) := dk_153 0 5 (dk_at dksX0_find_0 15 rfl rfl)
theorem dX0_find_18 : decode cX0_find 18 = .ok (.iload_n 2, 1) := dk_28 (dk_at dksX0_find_0 18 rfl rfl)
theorem dX0_find_19 : decode cX0_find 19 = .ok (.ireturn, 1) := dk_172 (dk_at dksX0_find_0 19 rfl rfl)
theorem dX0_find_20 : decode cX0_find 20 = .ok (.iinc 2 1, 3) := dk_132 2 1 (dk_at dksX0_find_0 20 rfl rfl)
theorem dX0_find_23 : decode cX0_find 23 = .ok (.goto (-21), 3) := dk_167 255 235 (dk_at dksX0_find_1 0 rfl rfl)
theorem dX0_find_26 : decode cX0_find 26 = .ok (.iconst (-1), 1) := dk_2 (dk_at dksX0_find_1 3 rfl rfl)
theorem dX0_find_27 : decode cX0_find 27 = .ok (.ireturn, 1) := dk_172 (dk_at dksX0_find_1 4 rfl rfl)
abbrev cX0_is : ByteArray := prog_1_method_1_code
def yX0_is : MethodName := ⟨RX0, "is", "(III)Z"⟩
def dkwX0_is_0 : List UInt8 := [26, 27, 161, 0, 12, 26, 28, 163, 0, 7, 4, 167, 0, 4, 3, 172]
abbrev dktX0_is_0 : List UInt8 := dkwX0_is_0 ++ []
theorem dksX0_is_0 : cX0_is.data.toList.drop 0 = dktX0_is_0 := by decide +kernel
theorem dX0_is_0 : decode cX0_is 0 = .ok (.iload_n 0, 1) := dk_26 (dk_at dksX0_is_0 0 rfl rfl)
theorem dX0_is_1 : decode cX0_is 1 = .ok (.iload_n 1, 1) := dk_27 (dk_at dksX0_is_0 1 rfl rfl)
theorem dX0_is_2 : decode cX0_is 2 = .ok (.if_icmp .lt 12, 3) := dk_161 0 12 (dk_at dksX0_is_0 2 rfl rfl)
theorem dX0_is_5 : decode cX0_is 5 = .ok (.iload_n 0, 1) := dk_26 (dk_at dksX0_is_0 5 rfl rfl)
theorem dX0_is_6 : decode cX0_is 6 = .ok (.iload_n 2, 1) := dk_28 (dk_at dksX0_is_0 6 rfl rfl)
theorem dX0_is_7 : decode cX0_is 7 = .ok (.if_icmp .gt 7, 3) := dk_163 0 7 (dk_at dksX0_is_0 7 rfl rfl)
theorem dX0_is_10 : decode cX0_is 10 = .ok (.iconst 1, 1) := dk_4 (dk_at dksX0_is_0 10 rfl rfl)
theorem dX0_is_11 : decode cX0_is 11 = .ok (.goto 4, 3) := dk_167 0 4 (dk_at dksX0_is_0 11 rfl rfl)
theorem dX0_is_14 : decode cX0_is 14 = .ok (.iconst 0, 1) := dk_3 (dk_at dksX0_is_0 14 rfl rfl)
theorem dX0_is_15 : decode cX0_is 15 = .ok (.ireturn, 1) := dk_172 (dk_at dksX0_is_0 15 rfl rfl)
abbrev cX0_has : ByteArray := prog_1_method_2_code
def yX0_has : MethodName := ⟨RX0, "has", "(II)Z"⟩
def dkwX0_has_0 : List UInt8 := [26, 27, 122, 4, 126, 4, 160, 0, 7, 4, 167, 0, 4, 3, 172]
abbrev dktX0_has_0 : List UInt8 := dkwX0_has_0 ++ []
theorem dksX0_has_0 : cX0_has.data.toList.drop 0 = dktX0_has_0 := by decide +kernel
theorem dX0_has_0 : decode cX0_has 0 = .ok (.iload_n 0, 1) := dk_26 (dk_at dksX0_has_0 0 rfl rfl)
theorem dX0_has_1 : decode cX0_has 1 = .ok (.iload_n 1, 1) := dk_27 (dk_at dksX0_has_0 1 rfl rfl)
theorem dX0_has_2 : decode cX0_has 2 = .ok (.ishr, 1) := dk_122 (dk_at dksX0_has_0 2 rfl rfl)
theorem dX0_has_3 : decode cX0_has 3 = .ok (.iconst 1, 1) := dk_4 (dk_at dksX0_has_0 3 rfl rfl)
theorem dX0_has_4 : decode cX0_has 4 = .ok (.iand, 1) := dk_126 (dk_at dksX0_has_0 4 rfl rfl)
theorem dX0_has_5 : decode cX0_has 5 = .ok (.iconst 1, 1) := dk_4 (dk_at dksX0_has_0 5 rfl rfl)
theorem dX0_has_6 : decode cX0_has 6 = .ok (.if_icmp .ne 7, 3) := dk_160 0 7 (dk_at dksX0_has_0 6 rfl rfl)
theorem dX0_has_9 : decode cX0_has 9 = .ok (.iconst 1, 1) := dk_4 (dk_at dksX0_has_0 9 rfl rfl)
theorem dX0_has_10 : decode cX0_has 10 = .ok (.goto 4, 3) := dk_167 0 4 (dk_at dksX0_has_0 10 rfl rfl)
theorem dX0_has_13 : decode cX0_has 13 = .ok (.iconst 0, 1) := dk_3 (dk_at dksX0_has_0 13 rfl rfl)
theorem dX0_has_14 : decode cX0_has 14 = .ok (.ireturn, 1) := dk_172 (dk_at dksX0_has_0 14 rfl rfl)
abbrev cX0_fault : ByteArray := prog_1_method_14_code
def yX0_fault : MethodName := ⟨RX0, "fault", "(I)I"⟩
def dkwX0_fault_1 : List UInt8 := [172]
abbrev dktX0_fault_1 : List UInt8 := dkwX0_fault_1 ++ []
def dkwX0_fault_0 : List UInt8 := [27, 154, 0, 10, 42, 180, 0, 109, 167, 0, 16, 27, 4, 160, 0, 10, 42, 180, 0, 41, 167, 0, 4, 2]
abbrev dktX0_fault_0 : List UInt8 := dkwX0_fault_0 ++ dktX0_fault_1
theorem dksX0_fault_0 : cX0_fault.data.toList.drop 0 = dktX0_fault_0 := by decide +kernel
theorem dksX0_fault_1 : cX0_fault.data.toList.drop 24 = dktX0_fault_1 := dk_seg dksX0_fault_0 24 rfl rfl
theorem dX0_fault_0 : decode cX0_fault 0 = .ok (.iload_n 1, 1) := dk_27 (dk_at dksX0_fault_0 0 rfl rfl)
theorem dX0_fault_1 : decode cX0_fault 1 = .ok (.ifCond .ne 10, 3) := dk_154 0 10 (dk_at dksX0_fault_0 1 rfl rfl)
theorem dX0_fault_4 : decode cX0_fault 4 = .ok (.aload_n 0, 1) := dk_42 (dk_at dksX0_fault_0 4 rfl rfl)
theorem dX0_fault_5 : decode cX0_fault 5 = .ok (.getfield 109, 3) := dk_180 0 109 (dk_at dksX0_fault_0 5 rfl rfl)
theorem dX0_fault_8 : decode cX0_fault 8 = .ok (.goto 16, 3) := dk_167 0 16 (dk_at dksX0_fault_0 8 rfl rfl)
theorem dX0_fault_11 : decode cX0_fault 11 = .ok (.iload_n 1, 1) := dk_27 (dk_at dksX0_fault_0 11 rfl rfl)
theorem dX0_fault_12 : decode cX0_fault 12 = .ok (.iconst 1, 1) := dk_4 (dk_at dksX0_fault_0 12 rfl rfl)
theorem dX0_fault_13 : decode cX0_fault 13 = .ok (.if_icmp .ne 10, 3) := dk_160 0 10 (dk_at dksX0_fault_0 13 rfl rfl)
theorem dX0_fault_16 : decode cX0_fault 16 = .ok (.aload_n 0, 1) := dk_42 (dk_at dksX0_fault_0 16 rfl rfl)
theorem dX0_fault_17 : decode cX0_fault 17 = .ok (.getfield 41, 3) := dk_180 0 41 (dk_at dksX0_fault_0 17 rfl rfl)
theorem dX0_fault_20 : decode cX0_fault 20 = .ok (.goto 4, 3) := dk_167 0 4 (dk_at dksX0_fault_0 20 rfl rfl)
theorem dX0_fault_23 : decode cX0_fault 23 = .ok (.iconst (-1), 1) := dk_2 (dk_at dksX0_fault_0 23 rfl rfl)
theorem dX0_fault_24 : decode cX0_fault 24 = .ok (.ireturn, 1) := dk_172 (dk_at dksX0_fault_1 0 rfl rfl)
abbrev cX0_has_2 : ByteArray := prog_1_method_25_code
def yX0_has_2 : MethodName := ⟨RX0, "has", "(I)I"⟩
def dkwX0_has_2_6 : List UInt8 := [172]
abbrev dktX0_has_2_6 : List UInt8 := dkwX0_has_2_6 ++ []
def dkwX0_has_2_5 : List UInt8 := [180, 0, 71, 182, 0, 188, 182, 0, 194, 172, 42, 180, 0, 71, 180, 0, 197, 172, 42, 180, 0, 128, 172, 2]
abbrev dktX0_has_2_5 : List UInt8 := dkwX0_has_2_5 ++ dktX0_has_2_6
def dkwX0_has_2_4 : List UInt8 := [180, 0, 71, 182, 0, 188, 184, 0, 183, 172, 42, 180, 0, 71, 182, 0, 191, 184, 0, 183, 172, 42, 42]
abbrev dktX0_has_2_4 : List UInt8 := dkwX0_has_2_4 ++ dktX0_has_2_5
def dkwX0_has_2_3 : List UInt8 := [180, 0, 71, 4, 182, 0, 180, 184, 0, 183, 172, 42, 180, 0, 71, 5, 182, 0, 180, 184, 0, 183, 172, 42]
abbrev dktX0_has_2_3 : List UInt8 := dkwX0_has_2_3 ++ dktX0_has_2_4
def dkwX0_has_2_2 : List UInt8 := [42, 182, 0, 149, 172, 42, 182, 0, 151, 172, 42, 182, 0, 153, 172, 42, 180, 0, 71, 180, 0, 177, 172, 42]
abbrev dktX0_has_2_2 : List UInt8 := dkwX0_has_2_2 ++ dktX0_has_2_3
def dkwX0_has_2_1 : List UInt8 := [170, 0, 0, 0, 0, 0, 153, 0, 0, 0, 0, 0, 0, 0, 10, 0, 0, 0, 59, 0, 0, 0, 64, 0, 0, 0, 69, 0, 0, 0, 74, 0, 0, 0, 82, 0, 0, 0, 94, 0, 0, 0, 106, 0, 0, 0, 117, 0, 0, 0, 128, 0, 0, 0, 140, 0, 0, 0, 148]
abbrev dktX0_has_2_1 : List UInt8 := dkwX0_has_2_1 ++ dktX0_has_2_2
def dkwX0_has_2_0 : List UInt8 := [27]
abbrev dktX0_has_2_0 : List UInt8 := dkwX0_has_2_0 ++ dktX0_has_2_1
theorem dksX0_has_2_0 : cX0_has_2.data.toList.drop 0 = dktX0_has_2_0 := by decide +kernel
theorem dksX0_has_2_1 : cX0_has_2.data.toList.drop 1 = dktX0_has_2_1 := dk_seg dksX0_has_2_0 1 rfl rfl
theorem dksX0_has_2_2 : cX0_has_2.data.toList.drop 60 = dktX0_has_2_2 := dk_seg dksX0_has_2_1 59 rfl rfl
theorem dksX0_has_2_3 : cX0_has_2.data.toList.drop 84 = dktX0_has_2_3 := dk_seg dksX0_has_2_2 24 rfl rfl
theorem dksX0_has_2_4 : cX0_has_2.data.toList.drop 108 = dktX0_has_2_4 := dk_seg dksX0_has_2_3 24 rfl rfl
theorem dksX0_has_2_5 : cX0_has_2.data.toList.drop 131 = dktX0_has_2_5 := dk_seg dksX0_has_2_4 23 rfl rfl
theorem dksX0_has_2_6 : cX0_has_2.data.toList.drop 155 = dktX0_has_2_6 := dk_seg dksX0_has_2_5 24 rfl rfl
theorem dX0_has_2_0 : decode cX0_has_2 0 = .ok (.iload_n 1, 1) := dk_27 (dk_at dksX0_has_2_0 0 rfl rfl)
theorem dX0_has_2_1 : decode cX0_has_2 1 = .ok (.tableswitch 153 0 10 #[59, 64, 69, 74, 82, 94, 106, 117, 128, 140, 148], 59) := by decide +kernel
theorem dX0_has_2_60 : decode cX0_has_2 60 = .ok (.aload_n 0, 1) := dk_42 (dk_at dksX0_has_2_2 0 rfl rfl)
theorem dX0_has_2_61 : decode cX0_has_2 61 = .ok (.invokevirtual 149, 3) := dk_182 0 149 (dk_at dksX0_has_2_2 1 rfl rfl)
theorem dX0_has_2_64 : decode cX0_has_2 64 = .ok (.ireturn, 1) := dk_172 (dk_at dksX0_has_2_2 4 rfl rfl)
theorem dX0_has_2_65 : decode cX0_has_2 65 = .ok (.aload_n 0, 1) := dk_42 (dk_at dksX0_has_2_2 5 rfl rfl)
theorem dX0_has_2_66 : decode cX0_has_2 66 = .ok (.invokevirtual 151, 3) := dk_182 0 151 (dk_at dksX0_has_2_2 6 rfl rfl)
theorem dX0_has_2_69 : decode cX0_has_2 69 = .ok (.ireturn, 1) := dk_172 (dk_at dksX0_has_2_2 9 rfl rfl)
theorem dX0_has_2_70 : decode cX0_has_2 70 = .ok (.aload_n 0, 1) := dk_42 (dk_at dksX0_has_2_2 10 rfl rfl)
theorem dX0_has_2_71 : decode cX0_has_2 71 = .ok (.invokevirtual 153, 3) := dk_182 0 153 (dk_at dksX0_has_2_2 11 rfl rfl)
theorem dX0_has_2_74 : decode cX0_has_2 74 = .ok (.ireturn, 1) := dk_172 (dk_at dksX0_has_2_2 14 rfl rfl)
theorem dX0_has_2_75 : decode cX0_has_2 75 = .ok (.aload_n 0, 1) := dk_42 (dk_at dksX0_has_2_2 15 rfl rfl)
theorem dX0_has_2_76 : decode cX0_has_2 76 = .ok (.getfield 71, 3) := dk_180 0 71 (dk_at dksX0_has_2_2 16 rfl rfl)
theorem dX0_has_2_79 : decode cX0_has_2 79 = .ok (.getfield 177, 3) := dk_180 0 177 (dk_at dksX0_has_2_2 19 rfl rfl)
theorem dX0_has_2_82 : decode cX0_has_2 82 = .ok (.ireturn, 1) := dk_172 (dk_at dksX0_has_2_2 22 rfl rfl)
theorem dX0_has_2_83 : decode cX0_has_2 83 = .ok (.aload_n 0, 1) := dk_42 (dk_at dksX0_has_2_2 23 rfl rfl)
theorem dX0_has_2_84 : decode cX0_has_2 84 = .ok (.getfield 71, 3) := dk_180 0 71 (dk_at dksX0_has_2_3 0 rfl rfl)
theorem dX0_has_2_87 : decode cX0_has_2 87 = .ok (.iconst 1, 1) := dk_4 (dk_at dksX0_has_2_3 3 rfl rfl)
theorem dX0_has_2_88 : decode cX0_has_2 88 = .ok (.invokevirtual 180, 3) := dk_182 0 180 (dk_at dksX0_has_2_3 4 rfl rfl)
theorem dX0_has_2_91 : decode cX0_has_2 91 = .ok (.invokestatic 183, 3) := dk_184 0 183 (dk_at dksX0_has_2_3 7 rfl rfl)
theorem dX0_has_2_94 : decode cX0_has_2 94 = .ok (.ireturn, 1) := dk_172 (dk_at dksX0_has_2_3 10 rfl rfl)
theorem dX0_has_2_95 : decode cX0_has_2 95 = .ok (.aload_n 0, 1) := dk_42 (dk_at dksX0_has_2_3 11 rfl rfl)
theorem dX0_has_2_96 : decode cX0_has_2 96 = .ok (.getfield 71, 3) := dk_180 0 71 (dk_at dksX0_has_2_3 12 rfl rfl)
theorem dX0_has_2_99 : decode cX0_has_2 99 = .ok (.iconst 2, 1) := dk_5 (dk_at dksX0_has_2_3 15 rfl rfl)
theorem dX0_has_2_100 : decode cX0_has_2 100 = .ok (.invokevirtual 180, 3) := dk_182 0 180 (dk_at dksX0_has_2_3 16 rfl rfl)
theorem dX0_has_2_103 : decode cX0_has_2 103 = .ok (.invokestatic 183, 3) := dk_184 0 183 (dk_at dksX0_has_2_3 19 rfl rfl)
theorem dX0_has_2_106 : decode cX0_has_2 106 = .ok (.ireturn, 1) := dk_172 (dk_at dksX0_has_2_3 22 rfl rfl)
theorem dX0_has_2_107 : decode cX0_has_2 107 = .ok (.aload_n 0, 1) := dk_42 (dk_at dksX0_has_2_3 23 rfl rfl)
theorem dX0_has_2_108 : decode cX0_has_2 108 = .ok (.getfield 71, 3) := dk_180 0 71 (dk_at dksX0_has_2_4 0 rfl rfl)
theorem dX0_has_2_111 : decode cX0_has_2 111 = .ok (.invokevirtual 188, 3) := dk_182 0 188 (dk_at dksX0_has_2_4 3 rfl rfl)
theorem dX0_has_2_114 : decode cX0_has_2 114 = .ok (.invokestatic 183, 3) := dk_184 0 183 (dk_at dksX0_has_2_4 6 rfl rfl)
theorem dX0_has_2_117 : decode cX0_has_2 117 = .ok (.ireturn, 1) := dk_172 (dk_at dksX0_has_2_4 9 rfl rfl)
theorem dX0_has_2_118 : decode cX0_has_2 118 = .ok (.aload_n 0, 1) := dk_42 (dk_at dksX0_has_2_4 10 rfl rfl)
theorem dX0_has_2_119 : decode cX0_has_2 119 = .ok (.getfield 71, 3) := dk_180 0 71 (dk_at dksX0_has_2_4 11 rfl rfl)
theorem dX0_has_2_122 : decode cX0_has_2 122 = .ok (.invokevirtual 191, 3) := dk_182 0 191 (dk_at dksX0_has_2_4 14 rfl rfl)
theorem dX0_has_2_125 : decode cX0_has_2 125 = .ok (.invokestatic 183, 3) := dk_184 0 183 (dk_at dksX0_has_2_4 17 rfl rfl)
theorem dX0_has_2_128 : decode cX0_has_2 128 = .ok (.ireturn, 1) := dk_172 (dk_at dksX0_has_2_4 20 rfl rfl)
theorem dX0_has_2_129 : decode cX0_has_2 129 = .ok (.aload_n 0, 1) := dk_42 (dk_at dksX0_has_2_4 21 rfl rfl)
theorem dX0_has_2_130 : decode cX0_has_2 130 = .ok (.aload_n 0, 1) := dk_42 (dk_at dksX0_has_2_4 22 rfl rfl)
theorem dX0_has_2_131 : decode cX0_has_2 131 = .ok (.getfield 71, 3) := dk_180 0 71 (dk_at dksX0_has_2_5 0 rfl rfl)
theorem dX0_has_2_134 : decode cX0_has_2 134 = .ok (.invokevirtual 188, 3) := dk_182 0 188 (dk_at dksX0_has_2_5 3 rfl rfl)
theorem dX0_has_2_137 : decode cX0_has_2 137 = .ok (.invokevirtual 194, 3) := dk_182 0 194 (dk_at dksX0_has_2_5 6 rfl rfl)
theorem dX0_has_2_140 : decode cX0_has_2 140 = .ok (.ireturn, 1) := dk_172 (dk_at dksX0_has_2_5 9 rfl rfl)
theorem dX0_has_2_141 : decode cX0_has_2 141 = .ok (.aload_n 0, 1) := dk_42 (dk_at dksX0_has_2_5 10 rfl rfl)
theorem dX0_has_2_142 : decode cX0_has_2 142 = .ok (.getfield 71, 3) := dk_180 0 71 (dk_at dksX0_has_2_5 11 rfl rfl)
theorem dX0_has_2_145 : decode cX0_has_2 145 = .ok (.getfield 197, 3) := dk_180 0 197 (dk_at dksX0_has_2_5 14 rfl rfl)
theorem dX0_has_2_148 : decode cX0_has_2 148 = .ok (.ireturn, 1) := dk_172 (dk_at dksX0_has_2_5 17 rfl rfl)
theorem dX0_has_2_149 : decode cX0_has_2 149 = .ok (.aload_n 0, 1) := dk_42 (dk_at dksX0_has_2_5 18 rfl rfl)
theorem dX0_has_2_150 : decode cX0_has_2 150 = .ok (.getfield 128, 3) := dk_180 0 128 (dk_at dksX0_has_2_5 19 rfl rfl)
theorem dX0_has_2_153 : decode cX0_has_2 153 = .ok (.ireturn, 1) := dk_172 (dk_at dksX0_has_2_5 22 rfl rfl)
theorem dX0_has_2_154 : decode cX0_has_2 154 = .ok (.iconst (-1), 1) := dk_2 (dk_at dksX0_has_2_5 23 rfl rfl)
theorem dX0_has_2_155 : decode cX0_has_2 155 = .ok (.ireturn, 1) := dk_172 (dk_at dksX0_has_2_6 0 rfl rfl)
abbrev cX0_things : ByteArray := prog_1_method_15_code
def yX0_things : MethodName := ⟨RX0, "things", "()I"⟩
def dkwX0_things_0 : List UInt8 := [42, 180, 0, 33, 180, 0, 134, 185, 0, 138, 1, 0, 172]
abbrev dktX0_things_0 : List UInt8 := dkwX0_things_0 ++ []
theorem dksX0_things_0 : cX0_things.data.toList.drop 0 = dktX0_things_0 := by decide +kernel
theorem dX0_things_0 : decode cX0_things 0 = .ok (.aload_n 0, 1) := dk_42 (dk_at dksX0_things_0 0 rfl rfl)
theorem dX0_things_1 : decode cX0_things 1 = .ok (.getfield 33, 3) := dk_180 0 33 (dk_at dksX0_things_0 1 rfl rfl)
theorem dX0_things_4 : decode cX0_things 4 = .ok (.getfield 134, 3) := dk_180 0 134 (dk_at dksX0_things_0 4 rfl rfl)
theorem dX0_things_7 : decode cX0_things 7 = .ok (.invokeinterface 138 1, 5) := by decide +kernel
theorem dX0_things_12 : decode cX0_things 12 = .ok (.ireturn, 1) := dk_172 (dk_at dksX0_things_0 12 rfl rfl)
abbrev cX0_menders : ByteArray := prog_1_method_16_code
def yX0_menders : MethodName := ⟨RX0, "menders", "()I"⟩
def dkwX0_menders_0 : List UInt8 := [42, 180, 0, 33, 180, 0, 143, 185, 0, 138, 1, 0, 172]
abbrev dktX0_menders_0 : List UInt8 := dkwX0_menders_0 ++ []
theorem dksX0_menders_0 : cX0_menders.data.toList.drop 0 = dktX0_menders_0 := by decide +kernel
theorem dX0_menders_0 : decode cX0_menders 0 = .ok (.aload_n 0, 1) := dk_42 (dk_at dksX0_menders_0 0 rfl rfl)
theorem dX0_menders_1 : decode cX0_menders 1 = .ok (.getfield 33, 3) := dk_180 0 33 (dk_at dksX0_menders_0 1 rfl rfl)
theorem dX0_menders_4 : decode cX0_menders 4 = .ok (.getfield 143, 3) := dk_180 0 143 (dk_at dksX0_menders_0 4 rfl rfl)
theorem dX0_menders_7 : decode cX0_menders 7 = .ok (.invokeinterface 138 1, 5) := by decide +kernel
theorem dX0_menders_12 : decode cX0_menders 12 = .ok (.ireturn, 1) := dk_172 (dk_at dksX0_menders_0 12 rfl rfl)
abbrev cX0_trials : ByteArray := prog_1_method_17_code
def yX0_trials : MethodName := ⟨RX0, "trials", "()I"⟩
def dkwX0_trials_0 : List UInt8 := [42, 180, 0, 33, 180, 0, 146, 185, 0, 138, 1, 0, 172]
abbrev dktX0_trials_0 : List UInt8 := dkwX0_trials_0 ++ []
theorem dksX0_trials_0 : cX0_trials.data.toList.drop 0 = dktX0_trials_0 := by decide +kernel
theorem dX0_trials_0 : decode cX0_trials 0 = .ok (.aload_n 0, 1) := dk_42 (dk_at dksX0_trials_0 0 rfl rfl)
theorem dX0_trials_1 : decode cX0_trials 1 = .ok (.getfield 33, 3) := dk_180 0 33 (dk_at dksX0_trials_0 1 rfl rfl)
theorem dX0_trials_4 : decode cX0_trials 4 = .ok (.getfield 146, 3) := dk_180 0 146 (dk_at dksX0_trials_0 4 rfl rfl)
theorem dX0_trials_7 : decode cX0_trials 7 = .ok (.invokeinterface 138 1, 5) := by decide +kernel
theorem dX0_trials_12 : decode cX0_trials 12 = .ok (.ireturn, 1) := dk_172 (dk_at dksX0_trials_0 12 rfl rfl)
abbrev cX0_thingOf : ByteArray := prog_1_method_21_code
def yX0_thingOf : MethodName := ⟨RX0, "thingOf", "(I)LMendedThings$Thing;"⟩
def dkwX0_thingOf_0 : List UInt8 := [42, 180, 0, 33, 180, 0, 134, 27, 185, 0, 155, 2, 0, 192, 0, 159, 176]
abbrev dktX0_thingOf_0 : List UInt8 := dkwX0_thingOf_0 ++ []
theorem dksX0_thingOf_0 : cX0_thingOf.data.toList.drop 0 = dktX0_thingOf_0 := by decide +kernel
theorem dX0_thingOf_0 : decode cX0_thingOf 0 = .ok (.aload_n 0, 1) := dk_42 (dk_at dksX0_thingOf_0 0 rfl rfl)
theorem dX0_thingOf_1 : decode cX0_thingOf 1 = .ok (.getfield 33, 3) := dk_180 0 33 (dk_at dksX0_thingOf_0 1 rfl rfl)
theorem dX0_thingOf_4 : decode cX0_thingOf 4 = .ok (.getfield 134, 3) := dk_180 0 134 (dk_at dksX0_thingOf_0 4 rfl rfl)
theorem dX0_thingOf_7 : decode cX0_thingOf 7 = .ok (.iload_n 1, 1) := dk_27 (dk_at dksX0_thingOf_0 7 rfl rfl)
theorem dX0_thingOf_8 : decode cX0_thingOf 8 = .ok (.invokeinterface 155 2, 5) := by decide +kernel
theorem dX0_thingOf_13 : decode cX0_thingOf 13 = .ok (.checkcast 159, 3) := dk_192 0 159 (dk_at dksX0_thingOf_0 13 rfl rfl)
theorem dX0_thingOf_16 : decode cX0_thingOf 16 = .ok (.areturn, 1) := dk_176 (dk_at dksX0_thingOf_0 16 rfl rfl)
abbrev cX0_held : ByteArray := prog_1_method_3_code
def yX0_held : MethodName := ⟨RX0, "held", "(J)J"⟩
def dkwX0_held_0 : List UInt8 := [20, 0, 5, 20, 0, 7, 30, 184, 0, 9, 184, 0, 15, 173]
abbrev dktX0_held_0 : List UInt8 := dkwX0_held_0 ++ []
theorem dksX0_held_0 : cX0_held.data.toList.drop 0 = dktX0_held_0 := by decide +kernel
theorem dX0_held_0 : decode cX0_held 0 = .ok (.ldc2_w 5, 3) := dk_20 0 5 (dk_at dksX0_held_0 0 rfl rfl)
theorem dX0_held_3 : decode cX0_held 3 = .ok (.ldc2_w 7, 3) := dk_20 0 7 (dk_at dksX0_held_0 3 rfl rfl)
theorem dX0_held_6 : decode cX0_held 6 = .ok (.lload_n 0, 1) := dk_30 (dk_at dksX0_held_0 6 rfl rfl)
theorem dX0_held_7 : decode cX0_held 7 = .ok (.invokestatic 9, 3) := dk_184 0 9 (dk_at dksX0_held_0 7 rfl rfl)
theorem dX0_held_10 : decode cX0_held 10 = .ok (.invokestatic 15, 3) := dk_184 0 15 (dk_at dksX0_held_0 10 rfl rfl)
theorem dX0_held_13 : decode cX0_held 13 = .ok (.lreturn, 1) := dk_173 (dk_at dksX0_held_0 13 rfl rfl)
abbrev cX0_looked : ByteArray := prog_1_method_57_code
def yX0_looked : MethodName := ⟨RX0, "looked", "(IJ)J"⟩
def dkwX0_looked_1 : List UInt8 := [180, 1, 82, 182, 1, 11, 153, 0, 7, 10, 167, 0, 4, 9, 173]
abbrev dktX0_looked_1 : List UInt8 := dkwX0_looked_1 ++ []
def dkwX0_looked_0 : List UInt8 := [27, 154, 0, 36, 32, 9, 148, 155, 0, 30, 32, 42, 182, 0, 153, 133, 148, 156, 0, 20, 42, 32, 136, 42]
abbrev dktX0_looked_0 : List UInt8 := dkwX0_looked_0 ++ dktX0_looked_1
theorem dksX0_looked_0 : cX0_looked.data.toList.drop 0 = dktX0_looked_0 := by decide +kernel
theorem dksX0_looked_1 : cX0_looked.data.toList.drop 24 = dktX0_looked_1 := dk_seg dksX0_looked_0 24 rfl rfl
theorem dX0_looked_0 : decode cX0_looked 0 = .ok (.iload_n 1, 1) := dk_27 (dk_at dksX0_looked_0 0 rfl rfl)
theorem dX0_looked_1 : decode cX0_looked 1 = .ok (.ifCond .ne 36, 3) := dk_154 0 36 (dk_at dksX0_looked_0 1 rfl rfl)
theorem dX0_looked_4 : decode cX0_looked 4 = .ok (.lload_n 2, 1) := dk_32 (dk_at dksX0_looked_0 4 rfl rfl)
theorem dX0_looked_5 : decode cX0_looked 5 = .ok (.lconst 0, 1) := dk_9 (dk_at dksX0_looked_0 5 rfl rfl)
theorem dX0_looked_6 : decode cX0_looked 6 = .ok (.lcmp, 1) := dk_148 (dk_at dksX0_looked_0 6 rfl rfl)
theorem dX0_looked_7 : decode cX0_looked 7 = .ok (.ifCond .lt 30, 3) := dk_155 0 30 (dk_at dksX0_looked_0 7 rfl rfl)
theorem dX0_looked_10 : decode cX0_looked 10 = .ok (.lload_n 2, 1) := dk_32 (dk_at dksX0_looked_0 10 rfl rfl)
theorem dX0_looked_11 : decode cX0_looked 11 = .ok (.aload_n 0, 1) := dk_42 (dk_at dksX0_looked_0 11 rfl rfl)
theorem dX0_looked_12 : decode cX0_looked 12 = .ok (.invokevirtual 153, 3) := dk_182 0 153 (dk_at dksX0_looked_0 12 rfl rfl)
theorem dX0_looked_15 : decode cX0_looked 15 = .ok (.i2l, 1) := dk_133 (dk_at dksX0_looked_0 15 rfl rfl)
theorem dX0_looked_16 : decode cX0_looked 16 = .ok (.lcmp, 1) := dk_148 (dk_at dksX0_looked_0 16 rfl rfl)
theorem dX0_looked_17 : decode cX0_looked 17 = .ok (.ifCond .ge 20, 3) := dk_156 0 20 (dk_at dksX0_looked_0 17 rfl rfl)
theorem dX0_looked_20 : decode cX0_looked 20 = .ok (.aload_n 0, 1) := dk_42 (dk_at dksX0_looked_0 20 rfl rfl)
theorem dX0_looked_21 : decode cX0_looked 21 = .ok (.lload_n 2, 1) := dk_32 (dk_at dksX0_looked_0 21 rfl rfl)
theorem dX0_looked_22 : decode cX0_looked 22 = .ok (.l2i, 1) := dk_136 (dk_at dksX0_looked_0 22 rfl rfl)
theorem dX0_looked_23 : decode cX0_looked 23 = .ok (.aload_n 0, 1) := dk_42 (dk_at dksX0_looked_0 23 rfl rfl)
theorem dX0_looked_24 : decode cX0_looked 24 = .ok (.getfield 338, 3) := dk_180 1 82 (dk_at dksX0_looked_1 0 rfl rfl)
theorem dX0_looked_27 : decode cX0_looked 27 = .ok (.invokevirtual 267, 3) := dk_182 1 11 (dk_at dksX0_looked_1 3 rfl rfl)
theorem dX0_looked_30 : decode cX0_looked 30 = .ok (.ifCond .eq 7, 3) := dk_153 0 7 (dk_at dksX0_looked_1 6 rfl rfl)
theorem dX0_looked_33 : decode cX0_looked 33 = .ok (.lconst 1, 1) := dk_10 (dk_at dksX0_looked_1 9 rfl rfl)
theorem dX0_looked_34 : decode cX0_looked 34 = .ok (.goto 4, 3) := dk_167 0 4 (dk_at dksX0_looked_1 10 rfl rfl)
theorem dX0_looked_37 : decode cX0_looked 37 = .ok (.lconst 0, 1) := dk_9 (dk_at dksX0_looked_1 13 rfl rfl)
theorem dX0_looked_38 : decode cX0_looked 38 = .ok (.lreturn, 1) := dk_173 (dk_at dksX0_looked_1 14 rfl rfl)
abbrev cX0_holdsFor : ByteArray := prog_1_method_31_code
def yX0_holdsFor : MethodName := ⟨RX0, "holdsFor", "(II)Z"⟩
def dkwX0_holdsFor_1 : List UInt8 := [182, 1, 4, 172]
abbrev dktX0_holdsFor_1 : List UInt8 := dkwX0_holdsFor_1 ++ []
def dkwX0_holdsFor_0 : List UInt8 := [42, 180, 0, 71, 42, 180, 0, 33, 180, 0, 146, 27, 185, 0, 155, 2, 0, 192, 0, 254, 180, 1, 0, 28]
abbrev dktX0_holdsFor_0 : List UInt8 := dkwX0_holdsFor_0 ++ dktX0_holdsFor_1
theorem dksX0_holdsFor_0 : cX0_holdsFor.data.toList.drop 0 = dktX0_holdsFor_0 := by decide +kernel
theorem dksX0_holdsFor_1 : cX0_holdsFor.data.toList.drop 24 = dktX0_holdsFor_1 := dk_seg dksX0_holdsFor_0 24 rfl rfl
theorem dX0_holdsFor_0 : decode cX0_holdsFor 0 = .ok (.aload_n 0, 1) := dk_42 (dk_at dksX0_holdsFor_0 0 rfl rfl)
theorem dX0_holdsFor_1 : decode cX0_holdsFor 1 = .ok (.getfield 71, 3) := dk_180 0 71 (dk_at dksX0_holdsFor_0 1 rfl rfl)
theorem dX0_holdsFor_4 : decode cX0_holdsFor 4 = .ok (.aload_n 0, 1) := dk_42 (dk_at dksX0_holdsFor_0 4 rfl rfl)
theorem dX0_holdsFor_5 : decode cX0_holdsFor 5 = .ok (.getfield 33, 3) := dk_180 0 33 (dk_at dksX0_holdsFor_0 5 rfl rfl)
theorem dX0_holdsFor_8 : decode cX0_holdsFor 8 = .ok (.getfield 146, 3) := dk_180 0 146 (dk_at dksX0_holdsFor_0 8 rfl rfl)
theorem dX0_holdsFor_11 : decode cX0_holdsFor 11 = .ok (.iload_n 1, 1) := dk_27 (dk_at dksX0_holdsFor_0 11 rfl rfl)
theorem dX0_holdsFor_12 : decode cX0_holdsFor 12 = .ok (.invokeinterface 155 2, 5) := by decide +kernel
theorem dX0_holdsFor_17 : decode cX0_holdsFor 17 = .ok (.checkcast 254, 3) := dk_192 0 254 (dk_at dksX0_holdsFor_0 17 rfl rfl)
theorem dX0_holdsFor_20 : decode cX0_holdsFor 20 = .ok (.getfield 256, 3) := dk_180 1 0 (dk_at dksX0_holdsFor_0 20 rfl rfl)
theorem dX0_holdsFor_23 : decode cX0_holdsFor 23 = .ok (.iload_n 2, 1) := dk_28 (dk_at dksX0_holdsFor_0 23 rfl rfl)
theorem dX0_holdsFor_24 : decode cX0_holdsFor 24 = .ok (.invokevirtual 260, 3) := dk_182 1 4 (dk_at dksX0_holdsFor_1 0 rfl rfl)
theorem dX0_holdsFor_27 : decode cX0_holdsFor 27 = .ok (.ireturn, 1) := dk_172 (dk_at dksX0_holdsFor_1 3 rfl rfl)
abbrev cX0_useOf : ByteArray := prog_1_method_23_code
def yX0_useOf : MethodName := ⟨RX0, "useOf", "(I)I"⟩
def dkwX0_useOf_1 : List UInt8 := [182, 0, 167, 180, 0, 171, 167, 0, 4, 3, 96, 61, 132, 3, 1, 167, 255, 222, 28, 172]
abbrev dktX0_useOf_1 : List UInt8 := dkwX0_useOf_1 ++ []
def dkwX0_useOf_0 : List UInt8 := [3, 61, 3, 62, 29, 42, 182, 0, 149, 162, 0, 32, 28, 27, 29, 184, 0, 163, 153, 0, 14, 42, 29]
abbrev dktX0_useOf_0 : List UInt8 := dkwX0_useOf_0 ++ dktX0_useOf_1
theorem dksX0_useOf_0 : cX0_useOf.data.toList.drop 0 = dktX0_useOf_0 := by decide +kernel
theorem dksX0_useOf_1 : cX0_useOf.data.toList.drop 23 = dktX0_useOf_1 := dk_seg dksX0_useOf_0 23 rfl rfl
theorem dX0_useOf_0 : decode cX0_useOf 0 = .ok (.iconst 0, 1) := dk_3 (dk_at dksX0_useOf_0 0 rfl rfl)
theorem dX0_useOf_1 : decode cX0_useOf 1 = .ok (.istore_n 2, 1) := dk_61 (dk_at dksX0_useOf_0 1 rfl rfl)
theorem dX0_useOf_2 : decode cX0_useOf 2 = .ok (.iconst 0, 1) := dk_3 (dk_at dksX0_useOf_0 2 rfl rfl)
theorem dX0_useOf_3 : decode cX0_useOf 3 = .ok (.istore_n 3, 1) := dk_62 (dk_at dksX0_useOf_0 3 rfl rfl)
theorem dX0_useOf_4 : decode cX0_useOf 4 = .ok (.iload_n 3, 1) := dk_29 (dk_at dksX0_useOf_0 4 rfl rfl)
theorem dX0_useOf_5 : decode cX0_useOf 5 = .ok (.aload_n 0, 1) := dk_42 (dk_at dksX0_useOf_0 5 rfl rfl)
theorem dX0_useOf_6 : decode cX0_useOf 6 = .ok (.invokevirtual 149, 3) := dk_182 0 149 (dk_at dksX0_useOf_0 6 rfl rfl)
theorem dX0_useOf_9 : decode cX0_useOf 9 = .ok (.if_icmp .ge 32, 3) := dk_162 0 32 (dk_at dksX0_useOf_0 9 rfl rfl)
theorem dX0_useOf_12 : decode cX0_useOf 12 = .ok (.iload_n 2, 1) := dk_28 (dk_at dksX0_useOf_0 12 rfl rfl)
theorem dX0_useOf_13 : decode cX0_useOf 13 = .ok (.iload_n 1, 1) := dk_27 (dk_at dksX0_useOf_0 13 rfl rfl)
theorem dX0_useOf_14 : decode cX0_useOf 14 = .ok (.iload_n 3, 1) := dk_29 (dk_at dksX0_useOf_0 14 rfl rfl)
theorem dX0_useOf_15 : decode cX0_useOf 15 = .ok (.invokestatic 163, 3) := dk_184 0 163 (dk_at dksX0_useOf_0 15 rfl rfl)
theorem dX0_useOf_18 : decode cX0_useOf 18 = .ok (.ifCond .eq 14, 3) := dk_153 0 14 (dk_at dksX0_useOf_0 18 rfl rfl)
theorem dX0_useOf_21 : decode cX0_useOf 21 = .ok (.aload_n 0, 1) := dk_42 (dk_at dksX0_useOf_0 21 rfl rfl)
theorem dX0_useOf_22 : decode cX0_useOf 22 = .ok (.iload_n 3, 1) := dk_29 (dk_at dksX0_useOf_0 22 rfl rfl)
theorem dX0_useOf_23 : decode cX0_useOf 23 = .ok (.invokevirtual 167, 3) := dk_182 0 167 (dk_at dksX0_useOf_1 0 rfl rfl)
theorem dX0_useOf_26 : decode cX0_useOf 26 = .ok (.getfield 171, 3) := dk_180 0 171 (dk_at dksX0_useOf_1 3 rfl rfl)
theorem dX0_useOf_29 : decode cX0_useOf 29 = .ok (.goto 4, 3) := dk_167 0 4 (dk_at dksX0_useOf_1 6 rfl rfl)
theorem dX0_useOf_32 : decode cX0_useOf 32 = .ok (.iconst 0, 1) := dk_3 (dk_at dksX0_useOf_1 9 rfl rfl)
theorem dX0_useOf_33 : decode cX0_useOf 33 = .ok (.iadd, 1) := dk_96 (dk_at dksX0_useOf_1 10 rfl rfl)
theorem dX0_useOf_34 : decode cX0_useOf 34 = .ok (.istore_n 2, 1) := dk_61 (dk_at dksX0_useOf_1 11 rfl rfl)
theorem dX0_useOf_35 : decode cX0_useOf 35 = .ok (.iinc 3 1, 3) := dk_132 3 1 (dk_at dksX0_useOf_1 12 rfl rfl)
theorem dX0_useOf_38 : decode cX0_useOf 38 = .ok (.goto (-34), 3) := dk_167 255 222 (dk_at dksX0_useOf_1 15 rfl rfl)
theorem dX0_useOf_41 : decode cX0_useOf 41 = .ok (.iload_n 2, 1) := dk_28 (dk_at dksX0_useOf_1 18 rfl rfl)
theorem dX0_useOf_42 : decode cX0_useOf 42 = .ok (.ireturn, 1) := dk_172 (dk_at dksX0_useOf_1 19 rfl rfl)
abbrev cX0_letter : ByteArray := prog_1_method_26_code
def yX0_letter : MethodName := ⟨RX0, "letter", "(III)I"⟩
def dkwX0_letter_3 : List UInt8 := [162, 0, 21, 25, 4, 28, 185, 0, 155, 2, 0, 192, 0, 204, 29, 182, 0, 206, 167, 0, 4, 2, 172]
abbrev dktX0_letter_3 : List UInt8 := dkwX0_letter_3 ++ []
def dkwX0_letter_2 : List UInt8 := [180, 0, 143, 167, 0, 10, 42, 180, 0, 33, 180, 0, 146, 58, 4, 28, 25, 4, 185, 0, 138, 1, 0]
abbrev dktX0_letter_2 : List UInt8 := dkwX0_letter_2 ++ dktX0_letter_3
def dkwX0_letter_1 : List UInt8 := [27, 154, 0, 13, 42, 180, 0, 33, 180, 0, 134, 167, 0, 25, 27, 4, 160, 0, 13, 42, 180, 0, 33]
abbrev dktX0_letter_1 : List UInt8 := dkwX0_letter_1 ++ dktX0_letter_2
def dkwX0_letter_0 : List UInt8 := [29, 3, 8, 184, 0, 200, 153, 0, 16, 27, 3, 5, 184, 0, 200, 153, 0, 7, 28, 156, 0, 5, 2, 172]
abbrev dktX0_letter_0 : List UInt8 := dkwX0_letter_0 ++ dktX0_letter_1
theorem dksX0_letter_0 : cX0_letter.data.toList.drop 0 = dktX0_letter_0 := by decide +kernel
theorem dksX0_letter_1 : cX0_letter.data.toList.drop 24 = dktX0_letter_1 := dk_seg dksX0_letter_0 24 rfl rfl
theorem dksX0_letter_2 : cX0_letter.data.toList.drop 47 = dktX0_letter_2 := dk_seg dksX0_letter_1 23 rfl rfl
theorem dksX0_letter_3 : cX0_letter.data.toList.drop 70 = dktX0_letter_3 := dk_seg dksX0_letter_2 23 rfl rfl
theorem dX0_letter_0 : decode cX0_letter 0 = .ok (.iload_n 3, 1) := dk_29 (dk_at dksX0_letter_0 0 rfl rfl)
theorem dX0_letter_1 : decode cX0_letter 1 = .ok (.iconst 0, 1) := dk_3 (dk_at dksX0_letter_0 1 rfl rfl)
theorem dX0_letter_2 : decode cX0_letter 2 = .ok (.iconst 5, 1) := dk_8 (dk_at dksX0_letter_0 2 rfl rfl)
theorem dX0_letter_3 : decode cX0_letter 3 = .ok (.invokestatic 200, 3) := dk_184 0 200 (dk_at dksX0_letter_0 3 rfl rfl)
theorem dX0_letter_6 : decode cX0_letter 6 = .ok (.ifCond .eq 16, 3) := dk_153 0 16 (dk_at dksX0_letter_0 6 rfl rfl)
theorem dX0_letter_9 : decode cX0_letter 9 = .ok (.iload_n 1, 1) := dk_27 (dk_at dksX0_letter_0 9 rfl rfl)
theorem dX0_letter_10 : decode cX0_letter 10 = .ok (.iconst 0, 1) := dk_3 (dk_at dksX0_letter_0 10 rfl rfl)
theorem dX0_letter_11 : decode cX0_letter 11 = .ok (.iconst 2, 1) := dk_5 (dk_at dksX0_letter_0 11 rfl rfl)
theorem dX0_letter_12 : decode cX0_letter 12 = .ok (.invokestatic 200, 3) := dk_184 0 200 (dk_at dksX0_letter_0 12 rfl rfl)
theorem dX0_letter_15 : decode cX0_letter 15 = .ok (.ifCond .eq 7, 3) := dk_153 0 7 (dk_at dksX0_letter_0 15 rfl rfl)
theorem dX0_letter_18 : decode cX0_letter 18 = .ok (.iload_n 2, 1) := dk_28 (dk_at dksX0_letter_0 18 rfl rfl)
theorem dX0_letter_19 : decode cX0_letter 19 = .ok (.ifCond .ge 5, 3) := dk_156 0 5 (dk_at dksX0_letter_0 19 rfl rfl)
theorem dX0_letter_22 : decode cX0_letter 22 = .ok (.iconst (-1), 1) := dk_2 (dk_at dksX0_letter_0 22 rfl rfl)
theorem dX0_letter_23 : decode cX0_letter 23 = .ok (.ireturn, 1) := dk_172 (dk_at dksX0_letter_0 23 rfl rfl)
theorem dX0_letter_24 : decode cX0_letter 24 = .ok (.iload_n 1, 1) := dk_27 (dk_at dksX0_letter_1 0 rfl rfl)
theorem dX0_letter_25 : decode cX0_letter 25 = .ok (.ifCond .ne 13, 3) := dk_154 0 13 (dk_at dksX0_letter_1 1 rfl rfl)
theorem dX0_letter_28 : decode cX0_letter 28 = .ok (.aload_n 0, 1) := dk_42 (dk_at dksX0_letter_1 4 rfl rfl)
theorem dX0_letter_29 : decode cX0_letter 29 = .ok (.getfield 33, 3) := dk_180 0 33 (dk_at dksX0_letter_1 5 rfl rfl)
theorem dX0_letter_32 : decode cX0_letter 32 = .ok (.getfield 134, 3) := dk_180 0 134 (dk_at dksX0_letter_1 8 rfl rfl)
theorem dX0_letter_35 : decode cX0_letter 35 = .ok (.goto 25, 3) := dk_167 0 25 (dk_at dksX0_letter_1 11 rfl rfl)
theorem dX0_letter_38 : decode cX0_letter 38 = .ok (.iload_n 1, 1) := dk_27 (dk_at dksX0_letter_1 14 rfl rfl)
theorem dX0_letter_39 : decode cX0_letter 39 = .ok (.iconst 1, 1) := dk_4 (dk_at dksX0_letter_1 15 rfl rfl)
theorem dX0_letter_40 : decode cX0_letter 40 = .ok (.if_icmp .ne 13, 3) := dk_160 0 13 (dk_at dksX0_letter_1 16 rfl rfl)
theorem dX0_letter_43 : decode cX0_letter 43 = .ok (.aload_n 0, 1) := dk_42 (dk_at dksX0_letter_1 19 rfl rfl)
theorem dX0_letter_44 : decode cX0_letter 44 = .ok (.getfield 33, 3) := dk_180 0 33 (dk_at dksX0_letter_1 20 rfl rfl)
theorem dX0_letter_47 : decode cX0_letter 47 = .ok (.getfield 143, 3) := dk_180 0 143 (dk_at dksX0_letter_2 0 rfl rfl)
theorem dX0_letter_50 : decode cX0_letter 50 = .ok (.goto 10, 3) := dk_167 0 10 (dk_at dksX0_letter_2 3 rfl rfl)
theorem dX0_letter_53 : decode cX0_letter 53 = .ok (.aload_n 0, 1) := dk_42 (dk_at dksX0_letter_2 6 rfl rfl)
theorem dX0_letter_54 : decode cX0_letter 54 = .ok (.getfield 33, 3) := dk_180 0 33 (dk_at dksX0_letter_2 7 rfl rfl)
theorem dX0_letter_57 : decode cX0_letter 57 = .ok (.getfield 146, 3) := dk_180 0 146 (dk_at dksX0_letter_2 10 rfl rfl)
theorem dX0_letter_60 : decode cX0_letter 60 = .ok (.astore 4, 2) := dk_58 4 (dk_at dksX0_letter_2 13 rfl rfl)
theorem dX0_letter_62 : decode cX0_letter 62 = .ok (.iload_n 2, 1) := dk_28 (dk_at dksX0_letter_2 15 rfl rfl)
theorem dX0_letter_63 : decode cX0_letter 63 = .ok (.aload 4, 2) := dk_25 4 (dk_at dksX0_letter_2 16 rfl rfl)
theorem dX0_letter_65 : decode cX0_letter 65 = .ok (.invokeinterface 138 1, 5) := by decide +kernel
theorem dX0_letter_70 : decode cX0_letter 70 = .ok (.if_icmp .ge 21, 3) := dk_162 0 21 (dk_at dksX0_letter_3 0 rfl rfl)
theorem dX0_letter_73 : decode cX0_letter 73 = .ok (.aload 4, 2) := dk_25 4 (dk_at dksX0_letter_3 3 rfl rfl)
theorem dX0_letter_75 : decode cX0_letter 75 = .ok (.iload_n 2, 1) := dk_28 (dk_at dksX0_letter_3 5 rfl rfl)
theorem dX0_letter_76 : decode cX0_letter 76 = .ok (.invokeinterface 155 2, 5) := by decide +kernel
theorem dX0_letter_81 : decode cX0_letter 81 = .ok (.checkcast 204, 3) := dk_192 0 204 (dk_at dksX0_letter_3 11 rfl rfl)
theorem dX0_letter_84 : decode cX0_letter 84 = .ok (.iload_n 3, 1) := dk_29 (dk_at dksX0_letter_3 14 rfl rfl)
theorem dX0_letter_85 : decode cX0_letter 85 = .ok (.invokevirtual 206, 3) := dk_182 0 206 (dk_at dksX0_letter_3 15 rfl rfl)
theorem dX0_letter_88 : decode cX0_letter 88 = .ok (.goto 4, 3) := dk_167 0 4 (dk_at dksX0_letter_3 18 rfl rfl)
theorem dX0_letter_91 : decode cX0_letter 91 = .ok (.iconst (-1), 1) := dk_2 (dk_at dksX0_letter_3 21 rfl rfl)
theorem dX0_letter_92 : decode cX0_letter 92 = .ok (.ireturn, 1) := dk_172 (dk_at dksX0_letter_3 22 rfl rfl)
abbrev cX0_thing : ByteArray := prog_1_method_27_code
def yX0_thing : MethodName := ⟨RX0, "thing", "(II)I"⟩
def dkwX0_thing_5 : List UInt8 := [167, 0, 4, 3, 172, 42, 180, 0, 71, 27, 182, 0, 231, 153, 0, 7, 4, 167, 0, 4, 3, 172, 2, 172]
abbrev dktX0_thing_5 : List UInt8 := dkwX0_thing_5 ++ []
def dkwX0_thing_4 : List UInt8 := [180, 0, 71, 180, 0, 224, 27, 46, 172, 42, 180, 0, 71, 180, 0, 227, 27, 51, 153, 0, 7, 4]
abbrev dktX0_thing_4 : List UInt8 := dkwX0_thing_4 ++ dktX0_thing_5
def dkwX0_thing_3 : List UInt8 := [172, 42, 180, 0, 71, 180, 0, 218, 27, 46, 172, 42, 180, 0, 71, 180, 0, 221, 27, 46, 172, 42]
abbrev dktX0_thing_3 : List UInt8 := dkwX0_thing_3 ++ dktX0_thing_4
def dkwX0_thing_2 : List UInt8 := [45, 180, 0, 174, 172, 45, 180, 0, 171, 172, 45, 180, 0, 213, 172, 42, 180, 0, 71, 180, 0, 216, 27, 46]
abbrev dktX0_thing_2 : List UInt8 := dkwX0_thing_2 ++ dktX0_thing_3
def dkwX0_thing_1 : List UInt8 := [170, 0, 0, 0, 0, 0, 141, 0, 0, 0, 0, 0, 0, 0, 8, 0, 0, 0, 51, 0, 0, 0, 56, 0, 0, 0, 61, 0, 0, 0, 66, 0, 0, 0, 76, 0, 0, 0, 86, 0, 0, 0, 96, 0, 0, 0, 106, 0, 0, 0, 124]
abbrev dktX0_thing_1 : List UInt8 := dkwX0_thing_1 ++ dktX0_thing_2
def dkwX0_thing_0 : List UInt8 := [42, 27, 182, 0, 209, 154, 0, 5, 2, 172, 42, 27, 182, 0, 167, 78, 28]
abbrev dktX0_thing_0 : List UInt8 := dkwX0_thing_0 ++ dktX0_thing_1
theorem dksX0_thing_0 : cX0_thing.data.toList.drop 0 = dktX0_thing_0 := by decide +kernel
theorem dksX0_thing_1 : cX0_thing.data.toList.drop 17 = dktX0_thing_1 := dk_seg dksX0_thing_0 17 rfl rfl
theorem dksX0_thing_2 : cX0_thing.data.toList.drop 68 = dktX0_thing_2 := dk_seg dksX0_thing_1 51 rfl rfl
theorem dksX0_thing_3 : cX0_thing.data.toList.drop 92 = dktX0_thing_3 := dk_seg dksX0_thing_2 24 rfl rfl
theorem dksX0_thing_4 : cX0_thing.data.toList.drop 114 = dktX0_thing_4 := dk_seg dksX0_thing_3 22 rfl rfl
theorem dksX0_thing_5 : cX0_thing.data.toList.drop 136 = dktX0_thing_5 := dk_seg dksX0_thing_4 22 rfl rfl
theorem dX0_thing_0 : decode cX0_thing 0 = .ok (.aload_n 0, 1) := dk_42 (dk_at dksX0_thing_0 0 rfl rfl)
theorem dX0_thing_1 : decode cX0_thing 1 = .ok (.iload_n 1, 1) := dk_27 (dk_at dksX0_thing_0 1 rfl rfl)
theorem dX0_thing_2 : decode cX0_thing 2 = .ok (.invokevirtual 209, 3) := dk_182 0 209 (dk_at dksX0_thing_0 2 rfl rfl)
theorem dX0_thing_5 : decode cX0_thing 5 = .ok (.ifCond .ne 5, 3) := dk_154 0 5 (dk_at dksX0_thing_0 5 rfl rfl)
theorem dX0_thing_8 : decode cX0_thing 8 = .ok (.iconst (-1), 1) := dk_2 (dk_at dksX0_thing_0 8 rfl rfl)
theorem dX0_thing_9 : decode cX0_thing 9 = .ok (.ireturn, 1) := dk_172 (dk_at dksX0_thing_0 9 rfl rfl)
theorem dX0_thing_10 : decode cX0_thing 10 = .ok (.aload_n 0, 1) := dk_42 (dk_at dksX0_thing_0 10 rfl rfl)
theorem dX0_thing_11 : decode cX0_thing 11 = .ok (.iload_n 1, 1) := dk_27 (dk_at dksX0_thing_0 11 rfl rfl)
theorem dX0_thing_12 : decode cX0_thing 12 = .ok (.invokevirtual 167, 3) := dk_182 0 167 (dk_at dksX0_thing_0 12 rfl rfl)
theorem dX0_thing_15 : decode cX0_thing 15 = .ok (.astore_n 3, 1) := dk_78 (dk_at dksX0_thing_0 15 rfl rfl)
theorem dX0_thing_16 : decode cX0_thing 16 = .ok (.iload_n 2, 1) := dk_28 (dk_at dksX0_thing_0 16 rfl rfl)
theorem dX0_thing_17 : decode cX0_thing 17 = .ok (.tableswitch 141 0 8 #[51, 56, 61, 66, 76, 86, 96, 106, 124], 51) := by decide +kernel
theorem dX0_thing_68 : decode cX0_thing 68 = .ok (.aload_n 3, 1) := dk_45 (dk_at dksX0_thing_2 0 rfl rfl)
theorem dX0_thing_69 : decode cX0_thing 69 = .ok (.getfield 174, 3) := dk_180 0 174 (dk_at dksX0_thing_2 1 rfl rfl)
theorem dX0_thing_72 : decode cX0_thing 72 = .ok (.ireturn, 1) := dk_172 (dk_at dksX0_thing_2 4 rfl rfl)
theorem dX0_thing_73 : decode cX0_thing 73 = .ok (.aload_n 3, 1) := dk_45 (dk_at dksX0_thing_2 5 rfl rfl)
theorem dX0_thing_74 : decode cX0_thing 74 = .ok (.getfield 171, 3) := dk_180 0 171 (dk_at dksX0_thing_2 6 rfl rfl)
theorem dX0_thing_77 : decode cX0_thing 77 = .ok (.ireturn, 1) := dk_172 (dk_at dksX0_thing_2 9 rfl rfl)
theorem dX0_thing_78 : decode cX0_thing 78 = .ok (.aload_n 3, 1) := dk_45 (dk_at dksX0_thing_2 10 rfl rfl)
theorem dX0_thing_79 : decode cX0_thing 79 = .ok (.getfield 213, 3) := dk_180 0 213 (dk_at dksX0_thing_2 11 rfl rfl)
theorem dX0_thing_82 : decode cX0_thing 82 = .ok (.ireturn, 1) := dk_172 (dk_at dksX0_thing_2 14 rfl rfl)
theorem dX0_thing_83 : decode cX0_thing 83 = .ok (.aload_n 0, 1) := dk_42 (dk_at dksX0_thing_2 15 rfl rfl)
theorem dX0_thing_84 : decode cX0_thing 84 = .ok (.getfield 71, 3) := dk_180 0 71 (dk_at dksX0_thing_2 16 rfl rfl)
theorem dX0_thing_87 : decode cX0_thing 87 = .ok (.getfield 216, 3) := dk_180 0 216 (dk_at dksX0_thing_2 19 rfl rfl)
theorem dX0_thing_90 : decode cX0_thing 90 = .ok (.iload_n 1, 1) := dk_27 (dk_at dksX0_thing_2 22 rfl rfl)
theorem dX0_thing_91 : decode cX0_thing 91 = .ok (.iaload, 1) := dk_46 (dk_at dksX0_thing_2 23 rfl rfl)
theorem dX0_thing_92 : decode cX0_thing 92 = .ok (.ireturn, 1) := dk_172 (dk_at dksX0_thing_3 0 rfl rfl)
theorem dX0_thing_93 : decode cX0_thing 93 = .ok (.aload_n 0, 1) := dk_42 (dk_at dksX0_thing_3 1 rfl rfl)
theorem dX0_thing_94 : decode cX0_thing 94 = .ok (.getfield 71, 3) := dk_180 0 71 (dk_at dksX0_thing_3 2 rfl rfl)
theorem dX0_thing_97 : decode cX0_thing 97 = .ok (.getfield 218, 3) := dk_180 0 218 (dk_at dksX0_thing_3 5 rfl rfl)
theorem dX0_thing_100 : decode cX0_thing 100 = .ok (.iload_n 1, 1) := dk_27 (dk_at dksX0_thing_3 8 rfl rfl)
theorem dX0_thing_101 : decode cX0_thing 101 = .ok (.iaload, 1) := dk_46 (dk_at dksX0_thing_3 9 rfl rfl)
theorem dX0_thing_102 : decode cX0_thing 102 = .ok (.ireturn, 1) := dk_172 (dk_at dksX0_thing_3 10 rfl rfl)
theorem dX0_thing_103 : decode cX0_thing 103 = .ok (.aload_n 0, 1) := dk_42 (dk_at dksX0_thing_3 11 rfl rfl)
theorem dX0_thing_104 : decode cX0_thing 104 = .ok (.getfield 71, 3) := dk_180 0 71 (dk_at dksX0_thing_3 12 rfl rfl)
theorem dX0_thing_107 : decode cX0_thing 107 = .ok (.getfield 221, 3) := dk_180 0 221 (dk_at dksX0_thing_3 15 rfl rfl)
theorem dX0_thing_110 : decode cX0_thing 110 = .ok (.iload_n 1, 1) := dk_27 (dk_at dksX0_thing_3 18 rfl rfl)
theorem dX0_thing_111 : decode cX0_thing 111 = .ok (.iaload, 1) := dk_46 (dk_at dksX0_thing_3 19 rfl rfl)
theorem dX0_thing_112 : decode cX0_thing 112 = .ok (.ireturn, 1) := dk_172 (dk_at dksX0_thing_3 20 rfl rfl)
theorem dX0_thing_113 : decode cX0_thing 113 = .ok (.aload_n 0, 1) := dk_42 (dk_at dksX0_thing_3 21 rfl rfl)
theorem dX0_thing_114 : decode cX0_thing 114 = .ok (.getfield 71, 3) := dk_180 0 71 (dk_at dksX0_thing_4 0 rfl rfl)
theorem dX0_thing_117 : decode cX0_thing 117 = .ok (.getfield 224, 3) := dk_180 0 224 (dk_at dksX0_thing_4 3 rfl rfl)
theorem dX0_thing_120 : decode cX0_thing 120 = .ok (.iload_n 1, 1) := dk_27 (dk_at dksX0_thing_4 6 rfl rfl)
theorem dX0_thing_121 : decode cX0_thing 121 = .ok (.iaload, 1) := dk_46 (dk_at dksX0_thing_4 7 rfl rfl)
theorem dX0_thing_122 : decode cX0_thing 122 = .ok (.ireturn, 1) := dk_172 (dk_at dksX0_thing_4 8 rfl rfl)
theorem dX0_thing_123 : decode cX0_thing 123 = .ok (.aload_n 0, 1) := dk_42 (dk_at dksX0_thing_4 9 rfl rfl)
theorem dX0_thing_124 : decode cX0_thing 124 = .ok (.getfield 71, 3) := dk_180 0 71 (dk_at dksX0_thing_4 10 rfl rfl)
theorem dX0_thing_127 : decode cX0_thing 127 = .ok (.getfield 227, 3) := dk_180 0 227 (dk_at dksX0_thing_4 13 rfl rfl)
theorem dX0_thing_130 : decode cX0_thing 130 = .ok (.iload_n 1, 1) := dk_27 (dk_at dksX0_thing_4 16 rfl rfl)
theorem dX0_thing_131 : decode cX0_thing 131 = .ok (.baload, 1) := dk_51 (dk_at dksX0_thing_4 17 rfl rfl)
theorem dX0_thing_132 : decode cX0_thing 132 = .ok (.ifCond .eq 7, 3) := dk_153 0 7 (dk_at dksX0_thing_4 18 rfl rfl)
theorem dX0_thing_135 : decode cX0_thing 135 = .ok (.iconst 1, 1) := dk_4 (dk_at dksX0_thing_4 21 rfl rfl)
theorem dX0_thing_136 : decode cX0_thing 136 = .ok (.goto 4, 3) := dk_167 0 4 (dk_at dksX0_thing_5 0 rfl rfl)
theorem dX0_thing_139 : decode cX0_thing 139 = .ok (.iconst 0, 1) := dk_3 (dk_at dksX0_thing_5 3 rfl rfl)
theorem dX0_thing_140 : decode cX0_thing 140 = .ok (.ireturn, 1) := dk_172 (dk_at dksX0_thing_5 4 rfl rfl)
theorem dX0_thing_141 : decode cX0_thing 141 = .ok (.aload_n 0, 1) := dk_42 (dk_at dksX0_thing_5 5 rfl rfl)
theorem dX0_thing_142 : decode cX0_thing 142 = .ok (.getfield 71, 3) := dk_180 0 71 (dk_at dksX0_thing_5 6 rfl rfl)
theorem dX0_thing_145 : decode cX0_thing 145 = .ok (.iload_n 1, 1) := dk_27 (dk_at dksX0_thing_5 9 rfl rfl)
theorem dX0_thing_146 : decode cX0_thing 146 = .ok (.invokevirtual 231, 3) := dk_182 0 231 (dk_at dksX0_thing_5 10 rfl rfl)
theorem dX0_thing_149 : decode cX0_thing 149 = .ok (.ifCond .eq 7, 3) := dk_153 0 7 (dk_at dksX0_thing_5 13 rfl rfl)
theorem dX0_thing_152 : decode cX0_thing 152 = .ok (.iconst 1, 1) := dk_4 (dk_at dksX0_thing_5 16 rfl rfl)
theorem dX0_thing_153 : decode cX0_thing 153 = .ok (.goto 4, 3) := dk_167 0 4 (dk_at dksX0_thing_5 17 rfl rfl)
theorem dX0_thing_156 : decode cX0_thing 156 = .ok (.iconst 0, 1) := dk_3 (dk_at dksX0_thing_5 20 rfl rfl)
theorem dX0_thing_157 : decode cX0_thing 157 = .ok (.ireturn, 1) := dk_172 (dk_at dksX0_thing_5 21 rfl rfl)
theorem dX0_thing_158 : decode cX0_thing 158 = .ok (.iconst (-1), 1) := dk_2 (dk_at dksX0_thing_5 22 rfl rfl)
theorem dX0_thing_159 : decode cX0_thing 159 = .ok (.ireturn, 1) := dk_172 (dk_at dksX0_thing_5 23 rfl rfl)
abbrev cX0_isThing : ByteArray := prog_1_method_18_code
def yX0_isThing : MethodName := ⟨RX0, "isThing", "(I)Z"⟩
def dkwX0_isThing_0 : List UInt8 := [27, 155, 0, 15, 27, 42, 182, 0, 149, 162, 0, 7, 4, 167, 0, 4, 3, 172]
abbrev dktX0_isThing_0 : List UInt8 := dkwX0_isThing_0 ++ []
theorem dksX0_isThing_0 : cX0_isThing.data.toList.drop 0 = dktX0_isThing_0 := by decide +kernel
theorem dX0_isThing_0 : decode cX0_isThing 0 = .ok (.iload_n 1, 1) := dk_27 (dk_at dksX0_isThing_0 0 rfl rfl)
theorem dX0_isThing_1 : decode cX0_isThing 1 = .ok (.ifCond .lt 15, 3) := dk_155 0 15 (dk_at dksX0_isThing_0 1 rfl rfl)
theorem dX0_isThing_4 : decode cX0_isThing 4 = .ok (.iload_n 1, 1) := dk_27 (dk_at dksX0_isThing_0 4 rfl rfl)
theorem dX0_isThing_5 : decode cX0_isThing 5 = .ok (.aload_n 0, 1) := dk_42 (dk_at dksX0_isThing_0 5 rfl rfl)
theorem dX0_isThing_6 : decode cX0_isThing 6 = .ok (.invokevirtual 149, 3) := dk_182 0 149 (dk_at dksX0_isThing_0 6 rfl rfl)
theorem dX0_isThing_9 : decode cX0_isThing 9 = .ok (.if_icmp .ge 7, 3) := dk_162 0 7 (dk_at dksX0_isThing_0 9 rfl rfl)
theorem dX0_isThing_12 : decode cX0_isThing 12 = .ok (.iconst 1, 1) := dk_4 (dk_at dksX0_isThing_0 12 rfl rfl)
theorem dX0_isThing_13 : decode cX0_isThing 13 = .ok (.goto 4, 3) := dk_167 0 4 (dk_at dksX0_isThing_0 13 rfl rfl)
theorem dX0_isThing_16 : decode cX0_isThing 16 = .ok (.iconst 0, 1) := dk_3 (dk_at dksX0_isThing_0 16 rfl rfl)
theorem dX0_isThing_17 : decode cX0_isThing 17 = .ok (.ireturn, 1) := dk_172 (dk_at dksX0_isThing_0 17 rfl rfl)
abbrev cX0_mender : ByteArray := prog_1_method_28_code
def yX0_mender : MethodName := ⟨RX0, "mender", "(II)I"⟩
def dkwX0_mender_1 : List UInt8 := [167, 0, 20, 28, 4, 160, 0, 14, 42, 27, 182, 0, 237, 180, 0, 244, 167, 0, 4, 2, 172]
abbrev dktX0_mender_1 : List UInt8 := dkwX0_mender_1 ++ []
def dkwX0_mender_0 : List UInt8 := [42, 27, 182, 0, 234, 154, 0, 5, 2, 172, 28, 154, 0, 14, 42, 27, 182, 0, 237, 180, 0, 241]
abbrev dktX0_mender_0 : List UInt8 := dkwX0_mender_0 ++ dktX0_mender_1
theorem dksX0_mender_0 : cX0_mender.data.toList.drop 0 = dktX0_mender_0 := by decide +kernel
theorem dksX0_mender_1 : cX0_mender.data.toList.drop 22 = dktX0_mender_1 := dk_seg dksX0_mender_0 22 rfl rfl
theorem dX0_mender_0 : decode cX0_mender 0 = .ok (.aload_n 0, 1) := dk_42 (dk_at dksX0_mender_0 0 rfl rfl)
theorem dX0_mender_1 : decode cX0_mender 1 = .ok (.iload_n 1, 1) := dk_27 (dk_at dksX0_mender_0 1 rfl rfl)
theorem dX0_mender_2 : decode cX0_mender 2 = .ok (.invokevirtual 234, 3) := dk_182 0 234 (dk_at dksX0_mender_0 2 rfl rfl)
theorem dX0_mender_5 : decode cX0_mender 5 = .ok (.ifCond .ne 5, 3) := dk_154 0 5 (dk_at dksX0_mender_0 5 rfl rfl)
theorem dX0_mender_8 : decode cX0_mender 8 = .ok (.iconst (-1), 1) := dk_2 (dk_at dksX0_mender_0 8 rfl rfl)
theorem dX0_mender_9 : decode cX0_mender 9 = .ok (.ireturn, 1) := dk_172 (dk_at dksX0_mender_0 9 rfl rfl)
theorem dX0_mender_10 : decode cX0_mender 10 = .ok (.iload_n 2, 1) := dk_28 (dk_at dksX0_mender_0 10 rfl rfl)
theorem dX0_mender_11 : decode cX0_mender 11 = .ok (.ifCond .ne 14, 3) := dk_154 0 14 (dk_at dksX0_mender_0 11 rfl rfl)
theorem dX0_mender_14 : decode cX0_mender 14 = .ok (.aload_n 0, 1) := dk_42 (dk_at dksX0_mender_0 14 rfl rfl)
theorem dX0_mender_15 : decode cX0_mender 15 = .ok (.iload_n 1, 1) := dk_27 (dk_at dksX0_mender_0 15 rfl rfl)
theorem dX0_mender_16 : decode cX0_mender 16 = .ok (.invokevirtual 237, 3) := dk_182 0 237 (dk_at dksX0_mender_0 16 rfl rfl)
theorem dX0_mender_19 : decode cX0_mender 19 = .ok (.getfield 241, 3) := dk_180 0 241 (dk_at dksX0_mender_0 19 rfl rfl)
theorem dX0_mender_22 : decode cX0_mender 22 = .ok (.goto 20, 3) := dk_167 0 20 (dk_at dksX0_mender_1 0 rfl rfl)
theorem dX0_mender_25 : decode cX0_mender 25 = .ok (.iload_n 2, 1) := dk_28 (dk_at dksX0_mender_1 3 rfl rfl)
theorem dX0_mender_26 : decode cX0_mender 26 = .ok (.iconst 1, 1) := dk_4 (dk_at dksX0_mender_1 4 rfl rfl)
theorem dX0_mender_27 : decode cX0_mender 27 = .ok (.if_icmp .ne 14, 3) := dk_160 0 14 (dk_at dksX0_mender_1 5 rfl rfl)
theorem dX0_mender_30 : decode cX0_mender 30 = .ok (.aload_n 0, 1) := dk_42 (dk_at dksX0_mender_1 8 rfl rfl)
theorem dX0_mender_31 : decode cX0_mender 31 = .ok (.iload_n 1, 1) := dk_27 (dk_at dksX0_mender_1 9 rfl rfl)
theorem dX0_mender_32 : decode cX0_mender 32 = .ok (.invokevirtual 237, 3) := dk_182 0 237 (dk_at dksX0_mender_1 10 rfl rfl)
theorem dX0_mender_35 : decode cX0_mender 35 = .ok (.getfield 244, 3) := dk_180 0 244 (dk_at dksX0_mender_1 13 rfl rfl)
theorem dX0_mender_38 : decode cX0_mender 38 = .ok (.goto 4, 3) := dk_167 0 4 (dk_at dksX0_mender_1 16 rfl rfl)
theorem dX0_mender_41 : decode cX0_mender 41 = .ok (.iconst (-1), 1) := dk_2 (dk_at dksX0_mender_1 19 rfl rfl)
theorem dX0_mender_42 : decode cX0_mender 42 = .ok (.ireturn, 1) := dk_172 (dk_at dksX0_mender_1 20 rfl rfl)
abbrev cX0_isMender : ByteArray := prog_1_method_19_code
def yX0_isMender : MethodName := ⟨RX0, "isMender", "(I)Z"⟩
def dkwX0_isMender_0 : List UInt8 := [27, 155, 0, 15, 27, 42, 182, 0, 151, 162, 0, 7, 4, 167, 0, 4, 3, 172]
abbrev dktX0_isMender_0 : List UInt8 := dkwX0_isMender_0 ++ []
theorem dksX0_isMender_0 : cX0_isMender.data.toList.drop 0 = dktX0_isMender_0 := by decide +kernel
theorem dX0_isMender_0 : decode cX0_isMender 0 = .ok (.iload_n 1, 1) := dk_27 (dk_at dksX0_isMender_0 0 rfl rfl)
theorem dX0_isMender_1 : decode cX0_isMender 1 = .ok (.ifCond .lt 15, 3) := dk_155 0 15 (dk_at dksX0_isMender_0 1 rfl rfl)
theorem dX0_isMender_4 : decode cX0_isMender 4 = .ok (.iload_n 1, 1) := dk_27 (dk_at dksX0_isMender_0 4 rfl rfl)
theorem dX0_isMender_5 : decode cX0_isMender 5 = .ok (.aload_n 0, 1) := dk_42 (dk_at dksX0_isMender_0 5 rfl rfl)
theorem dX0_isMender_6 : decode cX0_isMender 6 = .ok (.invokevirtual 151, 3) := dk_182 0 151 (dk_at dksX0_isMender_0 6 rfl rfl)
theorem dX0_isMender_9 : decode cX0_isMender 9 = .ok (.if_icmp .ge 7, 3) := dk_162 0 7 (dk_at dksX0_isMender_0 9 rfl rfl)
theorem dX0_isMender_12 : decode cX0_isMender 12 = .ok (.iconst 1, 1) := dk_4 (dk_at dksX0_isMender_0 12 rfl rfl)
theorem dX0_isMender_13 : decode cX0_isMender 13 = .ok (.goto 4, 3) := dk_167 0 4 (dk_at dksX0_isMender_0 13 rfl rfl)
theorem dX0_isMender_16 : decode cX0_isMender 16 = .ok (.iconst 0, 1) := dk_3 (dk_at dksX0_isMender_0 16 rfl rfl)
theorem dX0_isMender_17 : decode cX0_isMender 17 = .ok (.ireturn, 1) := dk_172 (dk_at dksX0_isMender_0 17 rfl rfl)
abbrev cX0_menderOf : ByteArray := prog_1_method_22_code
def yX0_menderOf : MethodName := ⟨RX0, "menderOf", "(I)LMendedThings$Mender;"⟩
def dkwX0_menderOf_0 : List UInt8 := [42, 180, 0, 33, 180, 0, 143, 27, 185, 0, 155, 2, 0, 192, 0, 161, 176]
abbrev dktX0_menderOf_0 : List UInt8 := dkwX0_menderOf_0 ++ []
theorem dksX0_menderOf_0 : cX0_menderOf.data.toList.drop 0 = dktX0_menderOf_0 := by decide +kernel
theorem dX0_menderOf_0 : decode cX0_menderOf 0 = .ok (.aload_n 0, 1) := dk_42 (dk_at dksX0_menderOf_0 0 rfl rfl)
theorem dX0_menderOf_1 : decode cX0_menderOf 1 = .ok (.getfield 33, 3) := dk_180 0 33 (dk_at dksX0_menderOf_0 1 rfl rfl)
theorem dX0_menderOf_4 : decode cX0_menderOf 4 = .ok (.getfield 143, 3) := dk_180 0 143 (dk_at dksX0_menderOf_0 4 rfl rfl)
theorem dX0_menderOf_7 : decode cX0_menderOf 7 = .ok (.iload_n 1, 1) := dk_27 (dk_at dksX0_menderOf_0 7 rfl rfl)
theorem dX0_menderOf_8 : decode cX0_menderOf 8 = .ok (.invokeinterface 155 2, 5) := by decide +kernel
theorem dX0_menderOf_13 : decode cX0_menderOf 13 = .ok (.checkcast 161, 3) := dk_192 0 161 (dk_at dksX0_menderOf_0 13 rfl rfl)
theorem dX0_menderOf_16 : decode cX0_menderOf 16 = .ok (.areturn, 1) := dk_176 (dk_at dksX0_menderOf_0 16 rfl rfl)
abbrev cX0_takes : ByteArray := prog_1_method_29_code
def yX0_takes : MethodName := ⟨RX0, "takes", "(II)I"⟩
def dkwX0_takes_1 : List UInt8 := [182, 0, 247, 167, 0, 4, 2, 172]
abbrev dktX0_takes_1 : List UInt8 := dkwX0_takes_1 ++ []
def dkwX0_takes_0 : List UInt8 := [42, 27, 182, 0, 209, 153, 0, 23, 42, 28, 182, 0, 234, 153, 0, 15, 42, 180, 0, 71, 27, 28]
abbrev dktX0_takes_0 : List UInt8 := dkwX0_takes_0 ++ dktX0_takes_1
theorem dksX0_takes_0 : cX0_takes.data.toList.drop 0 = dktX0_takes_0 := by decide +kernel
theorem dksX0_takes_1 : cX0_takes.data.toList.drop 22 = dktX0_takes_1 := dk_seg dksX0_takes_0 22 rfl rfl
theorem dX0_takes_0 : decode cX0_takes 0 = .ok (.aload_n 0, 1) := dk_42 (dk_at dksX0_takes_0 0 rfl rfl)
theorem dX0_takes_1 : decode cX0_takes 1 = .ok (.iload_n 1, 1) := dk_27 (dk_at dksX0_takes_0 1 rfl rfl)
theorem dX0_takes_2 : decode cX0_takes 2 = .ok (.invokevirtual 209, 3) := dk_182 0 209 (dk_at dksX0_takes_0 2 rfl rfl)
theorem dX0_takes_5 : decode cX0_takes 5 = .ok (.ifCond .eq 23, 3) := dk_153 0 23 (dk_at dksX0_takes_0 5 rfl rfl)
theorem dX0_takes_8 : decode cX0_takes 8 = .ok (.aload_n 0, 1) := dk_42 (dk_at dksX0_takes_0 8 rfl rfl)
theorem dX0_takes_9 : decode cX0_takes 9 = .ok (.iload_n 2, 1) := dk_28 (dk_at dksX0_takes_0 9 rfl rfl)
theorem dX0_takes_10 : decode cX0_takes 10 = .ok (.invokevirtual 234, 3) := dk_182 0 234 (dk_at dksX0_takes_0 10 rfl rfl)
theorem dX0_takes_13 : decode cX0_takes 13 = .ok (.ifCond .eq 15, 3) := dk_153 0 15 (dk_at dksX0_takes_0 13 rfl rfl)
theorem dX0_takes_16 : decode cX0_takes 16 = .ok (.aload_n 0, 1) := dk_42 (dk_at dksX0_takes_0 16 rfl rfl)
theorem dX0_takes_17 : decode cX0_takes 17 = .ok (.getfield 71, 3) := dk_180 0 71 (dk_at dksX0_takes_0 17 rfl rfl)
theorem dX0_takes_20 : decode cX0_takes 20 = .ok (.iload_n 1, 1) := dk_27 (dk_at dksX0_takes_0 20 rfl rfl)
theorem dX0_takes_21 : decode cX0_takes 21 = .ok (.iload_n 2, 1) := dk_28 (dk_at dksX0_takes_0 21 rfl rfl)
theorem dX0_takes_22 : decode cX0_takes 22 = .ok (.invokevirtual 247, 3) := dk_182 0 247 (dk_at dksX0_takes_1 0 rfl rfl)
theorem dX0_takes_25 : decode cX0_takes 25 = .ok (.goto 4, 3) := dk_167 0 4 (dk_at dksX0_takes_1 3 rfl rfl)
theorem dX0_takes_28 : decode cX0_takes 28 = .ok (.iconst (-1), 1) := dk_2 (dk_at dksX0_takes_1 6 rfl rfl)
theorem dX0_takes_29 : decode cX0_takes 29 = .ok (.ireturn, 1) := dk_172 (dk_at dksX0_takes_1 7 rfl rfl)
abbrev cX0_fine : ByteArray := prog_1_method_30_code
def yX0_fine : MethodName := ⟨RX0, "fine", "(II)I"⟩
def dkwX0_fine_1 : List UInt8 := [182, 0, 251, 167, 0, 4, 2, 172]
abbrev dktX0_fine_1 : List UInt8 := dkwX0_fine_1 ++ []
def dkwX0_fine_0 : List UInt8 := [42, 27, 182, 0, 209, 153, 0, 23, 42, 28, 182, 0, 234, 153, 0, 15, 42, 180, 0, 71, 27, 28]
abbrev dktX0_fine_0 : List UInt8 := dkwX0_fine_0 ++ dktX0_fine_1
theorem dksX0_fine_0 : cX0_fine.data.toList.drop 0 = dktX0_fine_0 := by decide +kernel
theorem dksX0_fine_1 : cX0_fine.data.toList.drop 22 = dktX0_fine_1 := dk_seg dksX0_fine_0 22 rfl rfl
theorem dX0_fine_0 : decode cX0_fine 0 = .ok (.aload_n 0, 1) := dk_42 (dk_at dksX0_fine_0 0 rfl rfl)
theorem dX0_fine_1 : decode cX0_fine 1 = .ok (.iload_n 1, 1) := dk_27 (dk_at dksX0_fine_0 1 rfl rfl)
theorem dX0_fine_2 : decode cX0_fine 2 = .ok (.invokevirtual 209, 3) := dk_182 0 209 (dk_at dksX0_fine_0 2 rfl rfl)
theorem dX0_fine_5 : decode cX0_fine 5 = .ok (.ifCond .eq 23, 3) := dk_153 0 23 (dk_at dksX0_fine_0 5 rfl rfl)
theorem dX0_fine_8 : decode cX0_fine 8 = .ok (.aload_n 0, 1) := dk_42 (dk_at dksX0_fine_0 8 rfl rfl)
theorem dX0_fine_9 : decode cX0_fine 9 = .ok (.iload_n 2, 1) := dk_28 (dk_at dksX0_fine_0 9 rfl rfl)
theorem dX0_fine_10 : decode cX0_fine 10 = .ok (.invokevirtual 234, 3) := dk_182 0 234 (dk_at dksX0_fine_0 10 rfl rfl)
theorem dX0_fine_13 : decode cX0_fine 13 = .ok (.ifCond .eq 15, 3) := dk_153 0 15 (dk_at dksX0_fine_0 13 rfl rfl)
theorem dX0_fine_16 : decode cX0_fine 16 = .ok (.aload_n 0, 1) := dk_42 (dk_at dksX0_fine_0 16 rfl rfl)
theorem dX0_fine_17 : decode cX0_fine 17 = .ok (.getfield 71, 3) := dk_180 0 71 (dk_at dksX0_fine_0 17 rfl rfl)
theorem dX0_fine_20 : decode cX0_fine 20 = .ok (.iload_n 1, 1) := dk_27 (dk_at dksX0_fine_0 20 rfl rfl)
theorem dX0_fine_21 : decode cX0_fine 21 = .ok (.iload_n 2, 1) := dk_28 (dk_at dksX0_fine_0 21 rfl rfl)
theorem dX0_fine_22 : decode cX0_fine 22 = .ok (.invokevirtual 251, 3) := dk_182 0 251 (dk_at dksX0_fine_1 0 rfl rfl)
theorem dX0_fine_25 : decode cX0_fine 25 = .ok (.goto 4, 3) := dk_167 0 4 (dk_at dksX0_fine_1 3 rfl rfl)
theorem dX0_fine_28 : decode cX0_fine 28 = .ok (.iconst (-1), 1) := dk_2 (dk_at dksX0_fine_1 6 rfl rfl)
theorem dX0_fine_29 : decode cX0_fine 29 = .ok (.ireturn, 1) := dk_172 (dk_at dksX0_fine_1 7 rfl rfl)
abbrev cX0_trial : ByteArray := prog_1_method_32_code
def yX0_trial : MethodName := ⟨RX0, "trial", "(II)I"⟩
def dkwX0_trial_1 : List UInt8 := [153, 0, 7, 4, 167, 0, 8, 3, 167, 0, 4, 2, 172]
abbrev dktX0_trial_1 : List UInt8 := dkwX0_trial_1 ++ []
def dkwX0_trial_0 : List UInt8 := [42, 27, 182, 1, 8, 153, 0, 28, 42, 28, 182, 0, 209, 153, 0, 20, 42, 27, 28, 182, 1, 11]
abbrev dktX0_trial_0 : List UInt8 := dkwX0_trial_0 ++ dktX0_trial_1
theorem dksX0_trial_0 : cX0_trial.data.toList.drop 0 = dktX0_trial_0 := by decide +kernel
theorem dksX0_trial_1 : cX0_trial.data.toList.drop 22 = dktX0_trial_1 := dk_seg dksX0_trial_0 22 rfl rfl
theorem dX0_trial_0 : decode cX0_trial 0 = .ok (.aload_n 0, 1) := dk_42 (dk_at dksX0_trial_0 0 rfl rfl)
theorem dX0_trial_1 : decode cX0_trial 1 = .ok (.iload_n 1, 1) := dk_27 (dk_at dksX0_trial_0 1 rfl rfl)
theorem dX0_trial_2 : decode cX0_trial 2 = .ok (.invokevirtual 264, 3) := dk_182 1 8 (dk_at dksX0_trial_0 2 rfl rfl)
theorem dX0_trial_5 : decode cX0_trial 5 = .ok (.ifCond .eq 28, 3) := dk_153 0 28 (dk_at dksX0_trial_0 5 rfl rfl)
theorem dX0_trial_8 : decode cX0_trial 8 = .ok (.aload_n 0, 1) := dk_42 (dk_at dksX0_trial_0 8 rfl rfl)
theorem dX0_trial_9 : decode cX0_trial 9 = .ok (.iload_n 2, 1) := dk_28 (dk_at dksX0_trial_0 9 rfl rfl)
theorem dX0_trial_10 : decode cX0_trial 10 = .ok (.invokevirtual 209, 3) := dk_182 0 209 (dk_at dksX0_trial_0 10 rfl rfl)
theorem dX0_trial_13 : decode cX0_trial 13 = .ok (.ifCond .eq 20, 3) := dk_153 0 20 (dk_at dksX0_trial_0 13 rfl rfl)
theorem dX0_trial_16 : decode cX0_trial 16 = .ok (.aload_n 0, 1) := dk_42 (dk_at dksX0_trial_0 16 rfl rfl)
theorem dX0_trial_17 : decode cX0_trial 17 = .ok (.iload_n 1, 1) := dk_27 (dk_at dksX0_trial_0 17 rfl rfl)
theorem dX0_trial_18 : decode cX0_trial 18 = .ok (.iload_n 2, 1) := dk_28 (dk_at dksX0_trial_0 18 rfl rfl)
theorem dX0_trial_19 : decode cX0_trial 19 = .ok (.invokevirtual 267, 3) := dk_182 1 11 (dk_at dksX0_trial_0 19 rfl rfl)
theorem dX0_trial_22 : decode cX0_trial 22 = .ok (.ifCond .eq 7, 3) := dk_153 0 7 (dk_at dksX0_trial_1 0 rfl rfl)
theorem dX0_trial_25 : decode cX0_trial 25 = .ok (.iconst 1, 1) := dk_4 (dk_at dksX0_trial_1 3 rfl rfl)
theorem dX0_trial_26 : decode cX0_trial 26 = .ok (.goto 8, 3) := dk_167 0 8 (dk_at dksX0_trial_1 4 rfl rfl)
theorem dX0_trial_29 : decode cX0_trial 29 = .ok (.iconst 0, 1) := dk_3 (dk_at dksX0_trial_1 7 rfl rfl)
theorem dX0_trial_30 : decode cX0_trial 30 = .ok (.goto 4, 3) := dk_167 0 4 (dk_at dksX0_trial_1 8 rfl rfl)
theorem dX0_trial_33 : decode cX0_trial 33 = .ok (.iconst (-1), 1) := dk_2 (dk_at dksX0_trial_1 11 rfl rfl)
theorem dX0_trial_34 : decode cX0_trial 34 = .ok (.ireturn, 1) := dk_172 (dk_at dksX0_trial_1 12 rfl rfl)
abbrev cX0_isTrial : ByteArray := prog_1_method_20_code
def yX0_isTrial : MethodName := ⟨RX0, "isTrial", "(I)Z"⟩
def dkwX0_isTrial_0 : List UInt8 := [27, 155, 0, 15, 27, 42, 182, 0, 153, 162, 0, 7, 4, 167, 0, 4, 3, 172]
abbrev dktX0_isTrial_0 : List UInt8 := dkwX0_isTrial_0 ++ []
theorem dksX0_isTrial_0 : cX0_isTrial.data.toList.drop 0 = dktX0_isTrial_0 := by decide +kernel
theorem dX0_isTrial_0 : decode cX0_isTrial 0 = .ok (.iload_n 1, 1) := dk_27 (dk_at dksX0_isTrial_0 0 rfl rfl)
theorem dX0_isTrial_1 : decode cX0_isTrial 1 = .ok (.ifCond .lt 15, 3) := dk_155 0 15 (dk_at dksX0_isTrial_0 1 rfl rfl)
theorem dX0_isTrial_4 : decode cX0_isTrial 4 = .ok (.iload_n 1, 1) := dk_27 (dk_at dksX0_isTrial_0 4 rfl rfl)
theorem dX0_isTrial_5 : decode cX0_isTrial 5 = .ok (.aload_n 0, 1) := dk_42 (dk_at dksX0_isTrial_0 5 rfl rfl)
theorem dX0_isTrial_6 : decode cX0_isTrial 6 = .ok (.invokevirtual 153, 3) := dk_182 0 153 (dk_at dksX0_isTrial_0 6 rfl rfl)
theorem dX0_isTrial_9 : decode cX0_isTrial 9 = .ok (.if_icmp .ge 7, 3) := dk_162 0 7 (dk_at dksX0_isTrial_0 9 rfl rfl)
theorem dX0_isTrial_12 : decode cX0_isTrial 12 = .ok (.iconst 1, 1) := dk_4 (dk_at dksX0_isTrial_0 12 rfl rfl)
theorem dX0_isTrial_13 : decode cX0_isTrial 13 = .ok (.goto 4, 3) := dk_167 0 4 (dk_at dksX0_isTrial_0 13 rfl rfl)
theorem dX0_isTrial_16 : decode cX0_isTrial 16 = .ok (.iconst 0, 1) := dk_3 (dk_at dksX0_isTrial_0 16 rfl rfl)
theorem dX0_isTrial_17 : decode cX0_isTrial 17 = .ok (.ireturn, 1) := dk_172 (dk_at dksX0_isTrial_0 17 rfl rfl)
abbrev cX0_kept : ByteArray := prog_1_method_33_code
def yX0_kept : MethodName := ⟨RX0, "kept", "(II)I"⟩
def dkwX0_kept_1 : List UInt8 := [153, 0, 17, 42, 180, 0, 71, 180, 1, 14, 27, 50, 28, 46, 167, 0, 4, 2, 172]
abbrev dktX0_kept_1 : List UInt8 := dkwX0_kept_1 ++ []
def dkwX0_kept_0 : List UInt8 := [27, 3, 42, 180, 0, 71, 180, 0, 197, 4, 100, 184, 0, 200, 153, 0, 26, 28, 3, 5, 184, 0, 200]
abbrev dktX0_kept_0 : List UInt8 := dkwX0_kept_0 ++ dktX0_kept_1
theorem dksX0_kept_0 : cX0_kept.data.toList.drop 0 = dktX0_kept_0 := by decide +kernel
theorem dksX0_kept_1 : cX0_kept.data.toList.drop 23 = dktX0_kept_1 := dk_seg dksX0_kept_0 23 rfl rfl
theorem dX0_kept_0 : decode cX0_kept 0 = .ok (.iload_n 1, 1) := dk_27 (dk_at dksX0_kept_0 0 rfl rfl)
theorem dX0_kept_1 : decode cX0_kept 1 = .ok (.iconst 0, 1) := dk_3 (dk_at dksX0_kept_0 1 rfl rfl)
theorem dX0_kept_2 : decode cX0_kept 2 = .ok (.aload_n 0, 1) := dk_42 (dk_at dksX0_kept_0 2 rfl rfl)
theorem dX0_kept_3 : decode cX0_kept 3 = .ok (.getfield 71, 3) := dk_180 0 71 (dk_at dksX0_kept_0 3 rfl rfl)
theorem dX0_kept_6 : decode cX0_kept 6 = .ok (.getfield 197, 3) := dk_180 0 197 (dk_at dksX0_kept_0 6 rfl rfl)
theorem dX0_kept_9 : decode cX0_kept 9 = .ok (.iconst 1, 1) := dk_4 (dk_at dksX0_kept_0 9 rfl rfl)
theorem dX0_kept_10 : decode cX0_kept 10 = .ok (.isub, 1) := dk_100 (dk_at dksX0_kept_0 10 rfl rfl)
theorem dX0_kept_11 : decode cX0_kept 11 = .ok (.invokestatic 200, 3) := dk_184 0 200 (dk_at dksX0_kept_0 11 rfl rfl)
theorem dX0_kept_14 : decode cX0_kept 14 = .ok (.ifCond .eq 26, 3) := dk_153 0 26 (dk_at dksX0_kept_0 14 rfl rfl)
theorem dX0_kept_17 : decode cX0_kept 17 = .ok (.iload_n 2, 1) := dk_28 (dk_at dksX0_kept_0 17 rfl rfl)
theorem dX0_kept_18 : decode cX0_kept 18 = .ok (.iconst 0, 1) := dk_3 (dk_at dksX0_kept_0 18 rfl rfl)
theorem dX0_kept_19 : decode cX0_kept 19 = .ok (.iconst 2, 1) := dk_5 (dk_at dksX0_kept_0 19 rfl rfl)
theorem dX0_kept_20 : decode cX0_kept 20 = .ok (.invokestatic 200, 3) := dk_184 0 200 (dk_at dksX0_kept_0 20 rfl rfl)
theorem dX0_kept_23 : decode cX0_kept 23 = .ok (.ifCond .eq 17, 3) := dk_153 0 17 (dk_at dksX0_kept_1 0 rfl rfl)
theorem dX0_kept_26 : decode cX0_kept 26 = .ok (.aload_n 0, 1) := dk_42 (dk_at dksX0_kept_1 3 rfl rfl)
theorem dX0_kept_27 : decode cX0_kept 27 = .ok (.getfield 71, 3) := dk_180 0 71 (dk_at dksX0_kept_1 4 rfl rfl)
theorem dX0_kept_30 : decode cX0_kept 30 = .ok (.getfield 270, 3) := dk_180 1 14 (dk_at dksX0_kept_1 7 rfl rfl)
theorem dX0_kept_33 : decode cX0_kept 33 = .ok (.iload_n 1, 1) := dk_27 (dk_at dksX0_kept_1 10 rfl rfl)
theorem dX0_kept_34 : decode cX0_kept 34 = .ok (.aaload, 1) := dk_50 (dk_at dksX0_kept_1 11 rfl rfl)
theorem dX0_kept_35 : decode cX0_kept 35 = .ok (.iload_n 2, 1) := dk_28 (dk_at dksX0_kept_1 12 rfl rfl)
theorem dX0_kept_36 : decode cX0_kept 36 = .ok (.iaload, 1) := dk_46 (dk_at dksX0_kept_1 13 rfl rfl)
theorem dX0_kept_37 : decode cX0_kept 37 = .ok (.goto 4, 3) := dk_167 0 4 (dk_at dksX0_kept_1 14 rfl rfl)
theorem dX0_kept_40 : decode cX0_kept 40 = .ok (.iconst (-1), 1) := dk_2 (dk_at dksX0_kept_1 17 rfl rfl)
theorem dX0_kept_41 : decode cX0_kept 41 = .ok (.ireturn, 1) := dk_172 (dk_at dksX0_kept_1 18 rfl rfl)
abbrev cX0_later : ByteArray := prog_1_method_35_code
def yX0_later : MethodName := ⟨RX0, "later", "(II)I"⟩
def dkwX0_later_4 : List UInt8 := [160, 0, 17, 42, 42, 180, 0, 75, 182, 0, 188, 182, 0, 194, 167, 0, 4, 29, 172]
abbrev dktX0_later_4 : List UInt8 := dkwX0_later_4 ++ []
def dkwX0_later_3 : List UInt8 := [182, 0, 188, 167, 0, 39, 28, 4, 160, 0, 14, 42, 180, 0, 75, 4, 182, 0, 180, 167, 0, 23, 28, 5]
abbrev dktX0_later_3 : List UInt8 := dkwX0_later_3 ++ dktX0_later_4
def dkwX0_later_2 : List UInt8 := [180, 0, 75, 182, 1, 25, 96, 62, 132, 4, 1, 167, 255, 237, 28, 154, 0, 13, 42, 180, 0, 75]
abbrev dktX0_later_2 : List UInt8 := dkwX0_later_2 ++ dktX0_later_3
def dkwX0_later_1 : List UInt8 := [180, 0, 75, 42, 180, 0, 71, 182, 1, 21, 87, 3, 62, 3, 54, 4, 21, 4, 27, 162, 0, 19, 29, 42]
abbrev dktX0_later_1 : List UInt8 := dkwX0_later_1 ++ dktX0_later_2
def dkwX0_later_0 : List UInt8 := [42, 27, 3, 16, 60, 182, 1, 18, 153, 0, 12, 28, 3, 6, 184, 0, 200, 154, 0, 5, 2, 172, 42]
abbrev dktX0_later_0 : List UInt8 := dkwX0_later_0 ++ dktX0_later_1
theorem dksX0_later_0 : cX0_later.data.toList.drop 0 = dktX0_later_0 := by decide +kernel
theorem dksX0_later_1 : cX0_later.data.toList.drop 23 = dktX0_later_1 := dk_seg dksX0_later_0 23 rfl rfl
theorem dksX0_later_2 : cX0_later.data.toList.drop 47 = dktX0_later_2 := dk_seg dksX0_later_1 24 rfl rfl
theorem dksX0_later_3 : cX0_later.data.toList.drop 69 = dktX0_later_3 := dk_seg dksX0_later_2 22 rfl rfl
theorem dksX0_later_4 : cX0_later.data.toList.drop 93 = dktX0_later_4 := dk_seg dksX0_later_3 24 rfl rfl
theorem dX0_later_0 : decode cX0_later 0 = .ok (.aload_n 0, 1) := dk_42 (dk_at dksX0_later_0 0 rfl rfl)
theorem dX0_later_1 : decode cX0_later 1 = .ok (.iload_n 1, 1) := dk_27 (dk_at dksX0_later_0 1 rfl rfl)
theorem dX0_later_2 : decode cX0_later 2 = .ok (.iconst 0, 1) := dk_3 (dk_at dksX0_later_0 2 rfl rfl)
theorem dX0_later_3 : decode cX0_later 3 = .ok (.bipush 60, 2) := dk_16 60 (dk_at dksX0_later_0 3 rfl rfl)
theorem dX0_later_5 : decode cX0_later 5 = .ok (.invokevirtual 274, 3) := dk_182 1 18 (dk_at dksX0_later_0 5 rfl rfl)
theorem dX0_later_8 : decode cX0_later 8 = .ok (.ifCond .eq 12, 3) := dk_153 0 12 (dk_at dksX0_later_0 8 rfl rfl)
theorem dX0_later_11 : decode cX0_later 11 = .ok (.iload_n 2, 1) := dk_28 (dk_at dksX0_later_0 11 rfl rfl)
theorem dX0_later_12 : decode cX0_later 12 = .ok (.iconst 0, 1) := dk_3 (dk_at dksX0_later_0 12 rfl rfl)
theorem dX0_later_13 : decode cX0_later 13 = .ok (.iconst 3, 1) := dk_6 (dk_at dksX0_later_0 13 rfl rfl)
theorem dX0_later_14 : decode cX0_later 14 = .ok (.invokestatic 200, 3) := dk_184 0 200 (dk_at dksX0_later_0 14 rfl rfl)
theorem dX0_later_17 : decode cX0_later 17 = .ok (.ifCond .ne 5, 3) := dk_154 0 5 (dk_at dksX0_later_0 17 rfl rfl)
theorem dX0_later_20 : decode cX0_later 20 = .ok (.iconst (-1), 1) := dk_2 (dk_at dksX0_later_0 20 rfl rfl)
theorem dX0_later_21 : decode cX0_later 21 = .ok (.ireturn, 1) := dk_172 (dk_at dksX0_later_0 21 rfl rfl)
theorem dX0_later_22 : decode cX0_later 22 = .ok (.aload_n 0, 1) := dk_42 (dk_at dksX0_later_0 22 rfl rfl)
theorem dX0_later_23 : decode cX0_later 23 = .ok (.getfield 75, 3) := dk_180 0 75 (dk_at dksX0_later_1 0 rfl rfl)
theorem dX0_later_26 : decode cX0_later 26 = .ok (.aload_n 0, 1) := dk_42 (dk_at dksX0_later_1 3 rfl rfl)
theorem dX0_later_27 : decode cX0_later 27 = .ok (.getfield 71, 3) := dk_180 0 71 (dk_at dksX0_later_1 4 rfl rfl)
theorem dX0_later_30 : decode cX0_later 30 = .ok (.invokevirtual 277, 3) := dk_182 1 21 (dk_at dksX0_later_1 7 rfl rfl)
theorem dX0_later_33 : decode cX0_later 33 = .ok (.pop, 1) := dk_87 (dk_at dksX0_later_1 10 rfl rfl)
theorem dX0_later_34 : decode cX0_later 34 = .ok (.iconst 0, 1) := dk_3 (dk_at dksX0_later_1 11 rfl rfl)
theorem dX0_later_35 : decode cX0_later 35 = .ok (.istore_n 3, 1) := dk_62 (dk_at dksX0_later_1 12 rfl rfl)
theorem dX0_later_36 : decode cX0_later 36 = .ok (.iconst 0, 1) := dk_3 (dk_at dksX0_later_1 13 rfl rfl)
theorem dX0_later_37 : decode cX0_later 37 = .ok (.istore 4, 2) := dk_54 4 (dk_at dksX0_later_1 14 rfl rfl)
theorem dX0_later_39 : decode cX0_later 39 = .ok (.iload 4, 2) := dk_21 4 (dk_at dksX0_later_1 16 rfl rfl)
theorem dX0_later_41 : decode cX0_later 41 = .ok (.iload_n 1, 1) := dk_27 (dk_at dksX0_later_1 18 rfl rfl)
theorem dX0_later_42 : decode cX0_later 42 = .ok (.if_icmp .ge 19, 3) := dk_162 0 19 (dk_at dksX0_later_1 19 rfl rfl)
theorem dX0_later_45 : decode cX0_later 45 = .ok (.iload_n 3, 1) := dk_29 (dk_at dksX0_later_1 22 rfl rfl)
theorem dX0_later_46 : decode cX0_later 46 = .ok (.aload_n 0, 1) := dk_42 (dk_at dksX0_later_1 23 rfl rfl)
theorem dX0_later_47 : decode cX0_later 47 = .ok (.getfield 75, 3) := dk_180 0 75 (dk_at dksX0_later_2 0 rfl rfl)
theorem dX0_later_50 : decode cX0_later 50 = .ok (.invokevirtual 281, 3) := dk_182 1 25 (dk_at dksX0_later_2 3 rfl rfl)
theorem dX0_later_53 : decode cX0_later 53 = .ok (.iadd, 1) := dk_96 (dk_at dksX0_later_2 6 rfl rfl)
theorem dX0_later_54 : decode cX0_later 54 = .ok (.istore_n 3, 1) := dk_62 (dk_at dksX0_later_2 7 rfl rfl)
theorem dX0_later_55 : decode cX0_later 55 = .ok (.iinc 4 1, 3) := dk_132 4 1 (dk_at dksX0_later_2 8 rfl rfl)
theorem dX0_later_58 : decode cX0_later 58 = .ok (.goto (-19), 3) := dk_167 255 237 (dk_at dksX0_later_2 11 rfl rfl)
theorem dX0_later_61 : decode cX0_later 61 = .ok (.iload_n 2, 1) := dk_28 (dk_at dksX0_later_2 14 rfl rfl)
theorem dX0_later_62 : decode cX0_later 62 = .ok (.ifCond .ne 13, 3) := dk_154 0 13 (dk_at dksX0_later_2 15 rfl rfl)
theorem dX0_later_65 : decode cX0_later 65 = .ok (.aload_n 0, 1) := dk_42 (dk_at dksX0_later_2 18 rfl rfl)
theorem dX0_later_66 : decode cX0_later 66 = .ok (.getfield 75, 3) := dk_180 0 75 (dk_at dksX0_later_2 19 rfl rfl)
theorem dX0_later_69 : decode cX0_later 69 = .ok (.invokevirtual 188, 3) := dk_182 0 188 (dk_at dksX0_later_3 0 rfl rfl)
theorem dX0_later_72 : decode cX0_later 72 = .ok (.goto 39, 3) := dk_167 0 39 (dk_at dksX0_later_3 3 rfl rfl)
theorem dX0_later_75 : decode cX0_later 75 = .ok (.iload_n 2, 1) := dk_28 (dk_at dksX0_later_3 6 rfl rfl)
theorem dX0_later_76 : decode cX0_later 76 = .ok (.iconst 1, 1) := dk_4 (dk_at dksX0_later_3 7 rfl rfl)
theorem dX0_later_77 : decode cX0_later 77 = .ok (.if_icmp .ne 14, 3) := dk_160 0 14 (dk_at dksX0_later_3 8 rfl rfl)
theorem dX0_later_80 : decode cX0_later 80 = .ok (.aload_n 0, 1) := dk_42 (dk_at dksX0_later_3 11 rfl rfl)
theorem dX0_later_81 : decode cX0_later 81 = .ok (.getfield 75, 3) := dk_180 0 75 (dk_at dksX0_later_3 12 rfl rfl)
theorem dX0_later_84 : decode cX0_later 84 = .ok (.iconst 1, 1) := dk_4 (dk_at dksX0_later_3 15 rfl rfl)
theorem dX0_later_85 : decode cX0_later 85 = .ok (.invokevirtual 180, 3) := dk_182 0 180 (dk_at dksX0_later_3 16 rfl rfl)
theorem dX0_later_88 : decode cX0_later 88 = .ok (.goto 23, 3) := dk_167 0 23 (dk_at dksX0_later_3 19 rfl rfl)
theorem dX0_later_91 : decode cX0_later 91 = .ok (.iload_n 2, 1) := dk_28 (dk_at dksX0_later_3 22 rfl rfl)
theorem dX0_later_92 : decode cX0_later 92 = .ok (.iconst 2, 1) := dk_5 (dk_at dksX0_later_3 23 rfl rfl)
theorem dX0_later_93 : decode cX0_later 93 = .ok (.if_icmp .ne 17, 3) := dk_160 0 17 (dk_at dksX0_later_4 0 rfl rfl)
theorem dX0_later_96 : decode cX0_later 96 = .ok (.aload_n 0, 1) := dk_42 (dk_at dksX0_later_4 3 rfl rfl)
theorem dX0_later_97 : decode cX0_later 97 = .ok (.aload_n 0, 1) := dk_42 (dk_at dksX0_later_4 4 rfl rfl)
theorem dX0_later_98 : decode cX0_later 98 = .ok (.getfield 75, 3) := dk_180 0 75 (dk_at dksX0_later_4 5 rfl rfl)
theorem dX0_later_101 : decode cX0_later 101 = .ok (.invokevirtual 188, 3) := dk_182 0 188 (dk_at dksX0_later_4 8 rfl rfl)
theorem dX0_later_104 : decode cX0_later 104 = .ok (.invokevirtual 194, 3) := dk_182 0 194 (dk_at dksX0_later_4 11 rfl rfl)
theorem dX0_later_107 : decode cX0_later 107 = .ok (.goto 4, 3) := dk_167 0 4 (dk_at dksX0_later_4 14 rfl rfl)
theorem dX0_later_110 : decode cX0_later 110 = .ok (.iload_n 3, 1) := dk_29 (dk_at dksX0_later_4 17 rfl rfl)
theorem dX0_later_111 : decode cX0_later 111 = .ok (.ireturn, 1) := dk_172 (dk_at dksX0_later_4 18 rfl rfl)
abbrev cX0_isAhead : ByteArray := prog_1_method_34_code
def yX0_isAhead : MethodName := ⟨RX0, "isAhead", "(III)Z"⟩
def dkwX0_isAhead_1 : List UInt8 := [4, 167, 0, 4, 3, 172]
abbrev dktX0_isAhead_1 : List UInt8 := dkwX0_isAhead_1 ++ []
def dkwX0_isAhead_0 : List UInt8 := [27, 28, 29, 184, 0, 200, 153, 0, 22, 42, 180, 0, 71, 180, 0, 177, 27, 96, 17, 3, 231, 163, 0, 7]
abbrev dktX0_isAhead_0 : List UInt8 := dkwX0_isAhead_0 ++ dktX0_isAhead_1
theorem dksX0_isAhead_0 : cX0_isAhead.data.toList.drop 0 = dktX0_isAhead_0 := by decide +kernel
theorem dksX0_isAhead_1 : cX0_isAhead.data.toList.drop 24 = dktX0_isAhead_1 := dk_seg dksX0_isAhead_0 24 rfl rfl
theorem dX0_isAhead_0 : decode cX0_isAhead 0 = .ok (.iload_n 1, 1) := dk_27 (dk_at dksX0_isAhead_0 0 rfl rfl)
theorem dX0_isAhead_1 : decode cX0_isAhead 1 = .ok (.iload_n 2, 1) := dk_28 (dk_at dksX0_isAhead_0 1 rfl rfl)
theorem dX0_isAhead_2 : decode cX0_isAhead 2 = .ok (.iload_n 3, 1) := dk_29 (dk_at dksX0_isAhead_0 2 rfl rfl)
theorem dX0_isAhead_3 : decode cX0_isAhead 3 = .ok (.invokestatic 200, 3) := dk_184 0 200 (dk_at dksX0_isAhead_0 3 rfl rfl)
theorem dX0_isAhead_6 : decode cX0_isAhead 6 = .ok (.ifCond .eq 22, 3) := dk_153 0 22 (dk_at dksX0_isAhead_0 6 rfl rfl)
theorem dX0_isAhead_9 : decode cX0_isAhead 9 = .ok (.aload_n 0, 1) := dk_42 (dk_at dksX0_isAhead_0 9 rfl rfl)
theorem dX0_isAhead_10 : decode cX0_isAhead 10 = .ok (.getfield 71, 3) := dk_180 0 71 (dk_at dksX0_isAhead_0 10 rfl rfl)
theorem dX0_isAhead_13 : decode cX0_isAhead 13 = .ok (.getfield 177, 3) := dk_180 0 177 (dk_at dksX0_isAhead_0 13 rfl rfl)
theorem dX0_isAhead_16 : decode cX0_isAhead 16 = .ok (.iload_n 1, 1) := dk_27 (dk_at dksX0_isAhead_0 16 rfl rfl)
theorem dX0_isAhead_17 : decode cX0_isAhead 17 = .ok (.iadd, 1) := dk_96 (dk_at dksX0_isAhead_0 17 rfl rfl)
theorem dX0_isAhead_18 : decode cX0_isAhead 18 = .ok (.sipush 999, 3) := dk_17 3 231 (dk_at dksX0_isAhead_0 18 rfl rfl)
theorem dX0_isAhead_21 : decode cX0_isAhead 21 = .ok (.if_icmp .gt 7, 3) := dk_163 0 7 (dk_at dksX0_isAhead_0 21 rfl rfl)
theorem dX0_isAhead_24 : decode cX0_isAhead 24 = .ok (.iconst 1, 1) := dk_4 (dk_at dksX0_isAhead_1 0 rfl rfl)
theorem dX0_isAhead_25 : decode cX0_isAhead 25 = .ok (.goto 4, 3) := dk_167 0 4 (dk_at dksX0_isAhead_1 1 rfl rfl)
theorem dX0_isAhead_28 : decode cX0_isAhead 28 = .ok (.iconst 0, 1) := dk_3 (dk_at dksX0_isAhead_1 4 rfl rfl)
theorem dX0_isAhead_29 : decode cX0_isAhead 29 = .ok (.ireturn, 1) := dk_172 (dk_at dksX0_isAhead_1 5 rfl rfl)
abbrev cX0_breaks : ByteArray := prog_1_method_36_code
def yX0_breaks : MethodName := ⟨RX0, "breaks", "(I)I"⟩
def dkwX0_breaks_2 : List UInt8 := [180, 1, 28, 27, 184, 0, 163, 153, 0, 5, 28, 172, 132, 2, 1, 167, 255, 218, 2, 172]
abbrev dktX0_breaks_2 : List UInt8 := dkwX0_breaks_2 ++ []
def dkwX0_breaks_1 : List UInt8 := [42, 28, 4, 16, 60, 182, 1, 18, 153, 0, 33, 42, 180, 0, 75, 182, 1, 25, 87, 42, 180, 0, 75]
abbrev dktX0_breaks_1 : List UInt8 := dkwX0_breaks_1 ++ dktX0_breaks_2
def dkwX0_breaks_0 : List UInt8 := [42, 27, 182, 0, 209, 154, 0, 5, 2, 172, 42, 180, 0, 75, 42, 180, 0, 71, 182, 1, 21, 87, 4, 61]
abbrev dktX0_breaks_0 : List UInt8 := dkwX0_breaks_0 ++ dktX0_breaks_1
theorem dksX0_breaks_0 : cX0_breaks.data.toList.drop 0 = dktX0_breaks_0 := by decide +kernel
theorem dksX0_breaks_1 : cX0_breaks.data.toList.drop 24 = dktX0_breaks_1 := dk_seg dksX0_breaks_0 24 rfl rfl
theorem dksX0_breaks_2 : cX0_breaks.data.toList.drop 47 = dktX0_breaks_2 := dk_seg dksX0_breaks_1 23 rfl rfl
theorem dX0_breaks_0 : decode cX0_breaks 0 = .ok (.aload_n 0, 1) := dk_42 (dk_at dksX0_breaks_0 0 rfl rfl)
theorem dX0_breaks_1 : decode cX0_breaks 1 = .ok (.iload_n 1, 1) := dk_27 (dk_at dksX0_breaks_0 1 rfl rfl)
theorem dX0_breaks_2 : decode cX0_breaks 2 = .ok (.invokevirtual 209, 3) := dk_182 0 209 (dk_at dksX0_breaks_0 2 rfl rfl)
theorem dX0_breaks_5 : decode cX0_breaks 5 = .ok (.ifCond .ne 5, 3) := dk_154 0 5 (dk_at dksX0_breaks_0 5 rfl rfl)
theorem dX0_breaks_8 : decode cX0_breaks 8 = .ok (.iconst (-1), 1) := dk_2 (dk_at dksX0_breaks_0 8 rfl rfl)
theorem dX0_breaks_9 : decode cX0_breaks 9 = .ok (.ireturn, 1) := dk_172 (dk_at dksX0_breaks_0 9 rfl rfl)
theorem dX0_breaks_10 : decode cX0_breaks 10 = .ok (.aload_n 0, 1) := dk_42 (dk_at dksX0_breaks_0 10 rfl rfl)
theorem dX0_breaks_11 : decode cX0_breaks 11 = .ok (.getfield 75, 3) := dk_180 0 75 (dk_at dksX0_breaks_0 11 rfl rfl)
theorem dX0_breaks_14 : decode cX0_breaks 14 = .ok (.aload_n 0, 1) := dk_42 (dk_at dksX0_breaks_0 14 rfl rfl)
theorem dX0_breaks_15 : decode cX0_breaks 15 = .ok (.getfield 71, 3) := dk_180 0 71 (dk_at dksX0_breaks_0 15 rfl rfl)
theorem dX0_breaks_18 : decode cX0_breaks 18 = .ok (.invokevirtual 277, 3) := dk_182 1 21 (dk_at dksX0_breaks_0 18 rfl rfl)
theorem dX0_breaks_21 : decode cX0_breaks 21 = .ok (.pop, 1) := dk_87 (dk_at dksX0_breaks_0 21 rfl rfl)
theorem dX0_breaks_22 : decode cX0_breaks 22 = .ok (.iconst 1, 1) := dk_4 (dk_at dksX0_breaks_0 22 rfl rfl)
theorem dX0_breaks_23 : decode cX0_breaks 23 = .ok (.istore_n 2, 1) := dk_61 (dk_at dksX0_breaks_0 23 rfl rfl)
theorem dX0_breaks_24 : decode cX0_breaks 24 = .ok (.aload_n 0, 1) := dk_42 (dk_at dksX0_breaks_1 0 rfl rfl)
theorem dX0_breaks_25 : decode cX0_breaks 25 = .ok (.iload_n 2, 1) := dk_28 (dk_at dksX0_breaks_1 1 rfl rfl)
theorem dX0_breaks_26 : decode cX0_breaks 26 = .ok (.iconst 1, 1) := dk_4 (dk_at dksX0_breaks_1 2 rfl rfl)
theorem dX0_breaks_27 : decode cX0_breaks 27 = .ok (.bipush 60, 2) := dk_16 60 (dk_at dksX0_breaks_1 3 rfl rfl)
theorem dX0_breaks_29 : decode cX0_breaks 29 = .ok (.invokevirtual 274, 3) := dk_182 1 18 (dk_at dksX0_breaks_1 5 rfl rfl)
theorem dX0_breaks_32 : decode cX0_breaks 32 = .ok (.ifCond .eq 33, 3) := dk_153 0 33 (dk_at dksX0_breaks_1 8 rfl rfl)
theorem dX0_breaks_35 : decode cX0_breaks 35 = .ok (.aload_n 0, 1) := dk_42 (dk_at dksX0_breaks_1 11 rfl rfl)
theorem dX0_breaks_36 : decode cX0_breaks 36 = .ok (.getfield 75, 3) := dk_180 0 75 (dk_at dksX0_breaks_1 12 rfl rfl)
theorem dX0_breaks_39 : decode cX0_breaks 39 = .ok (.invokevirtual 281, 3) := dk_182 1 25 (dk_at dksX0_breaks_1 15 rfl rfl)
theorem dX0_breaks_42 : decode cX0_breaks 42 = .ok (.pop, 1) := dk_87 (dk_at dksX0_breaks_1 18 rfl rfl)
theorem dX0_breaks_43 : decode cX0_breaks 43 = .ok (.aload_n 0, 1) := dk_42 (dk_at dksX0_breaks_1 19 rfl rfl)
theorem dX0_breaks_44 : decode cX0_breaks 44 = .ok (.getfield 75, 3) := dk_180 0 75 (dk_at dksX0_breaks_1 20 rfl rfl)
theorem dX0_breaks_47 : decode cX0_breaks 47 = .ok (.getfield 284, 3) := dk_180 1 28 (dk_at dksX0_breaks_2 0 rfl rfl)
theorem dX0_breaks_50 : decode cX0_breaks 50 = .ok (.iload_n 1, 1) := dk_27 (dk_at dksX0_breaks_2 3 rfl rfl)
theorem dX0_breaks_51 : decode cX0_breaks 51 = .ok (.invokestatic 163, 3) := dk_184 0 163 (dk_at dksX0_breaks_2 4 rfl rfl)
theorem dX0_breaks_54 : decode cX0_breaks 54 = .ok (.ifCond .eq 5, 3) := dk_153 0 5 (dk_at dksX0_breaks_2 7 rfl rfl)
theorem dX0_breaks_57 : decode cX0_breaks 57 = .ok (.iload_n 2, 1) := dk_28 (dk_at dksX0_breaks_2 10 rfl rfl)
theorem dX0_breaks_58 : decode cX0_breaks 58 = .ok (.ireturn, 1) := dk_172 (dk_at dksX0_breaks_2 11 rfl rfl)
theorem dX0_breaks_59 : decode cX0_breaks 59 = .ok (.iinc 2 1, 3) := dk_132 2 1 (dk_at dksX0_breaks_2 12 rfl rfl)
theorem dX0_breaks_62 : decode cX0_breaks 62 = .ok (.goto (-38), 3) := dk_167 255 218 (dk_at dksX0_breaks_2 15 rfl rfl)
theorem dX0_breaks_65 : decode cX0_breaks 65 = .ok (.iconst (-1), 1) := dk_2 (dk_at dksX0_breaks_2 18 rfl rfl)
theorem dX0_breaks_66 : decode cX0_breaks 66 = .ok (.ireturn, 1) := dk_172 (dk_at dksX0_breaks_2 19 rfl rfl)
abbrev cX0_house : ByteArray := prog_1_method_37_code
def yX0_house : MethodName := ⟨RX0, "house", "(II)I"⟩
def dkwX0_house_9 : List UInt8 := [28, 154, 0, 7, 29, 167, 0, 8, 42, 29, 182, 1, 31, 172]
abbrev dktX0_house_9 : List UInt8 := dkwX0_house_9 ++ []
def dkwX0_house_8 : List UInt8 := [182, 0, 188, 182, 0, 194, 27, 161, 0, 6, 21, 4, 62, 132, 4, 1, 167, 255, 85, 29, 2, 159, 0, 7]
abbrev dktX0_house_8 : List UInt8 := dkwX0_house_8 ++ dktX0_house_9
def dkwX0_house_7 : List UInt8 := [182, 1, 34, 42, 180, 0, 75, 21, 7, 3, 182, 1, 36, 132, 7, 1, 167, 255, 212, 42, 42, 180, 0, 75]
abbrev dktX0_house_7 : List UInt8 := dkwX0_house_7 ++ dktX0_house_8
def dkwX0_house_6 : List UInt8 := [162, 0, 41, 21, 4, 21, 7, 184, 0, 163, 154, 0, 6, 167, 0, 22, 42, 180, 0, 75, 21, 7]
abbrev dktX0_house_6 : List UInt8 := dkwX0_house_6 ++ dktX0_house_7
def dkwX0_house_5 : List UInt8 := [167, 0, 83, 42, 180, 0, 75, 42, 180, 0, 71, 182, 1, 21, 87, 3, 54, 7, 21, 7, 42, 182, 0, 149]
abbrev dktX0_house_5 : List UInt8 := dkwX0_house_5 ++ dktX0_house_6
def dkwX0_house_4 : List UInt8 := [21, 4, 184, 0, 183, 29, 184, 0, 183, 161, 0, 7, 4, 167, 0, 4, 3, 54, 6, 21, 6, 153, 0, 6]
abbrev dktX0_house_4 : List UInt8 := dkwX0_house_4 ++ dktX0_house_5
def dkwX0_house_3 : List UInt8 := [159, 0, 39, 21, 5, 42, 29, 182, 1, 31, 163, 0, 25, 21, 5, 42, 29, 182, 1, 31, 160, 0, 19]
abbrev dktX0_house_3 : List UInt8 := dkwX0_house_3 ++ dktX0_house_4
def dkwX0_house_2 : List UInt8 := [180, 0, 71, 4, 182, 0, 180, 126, 153, 0, 6, 167, 0, 143, 42, 21, 4, 182, 1, 31, 54, 5, 29, 2]
abbrev dktX0_house_2 : List UInt8 := dkwX0_house_2 ++ dktX0_house_3
def dkwX0_house_1 : List UInt8 := [154, 0, 5, 2, 172, 2, 62, 3, 54, 4, 21, 4, 4, 42, 182, 0, 149, 120, 162, 0, 166, 21, 4, 42]
abbrev dktX0_house_1 : List UInt8 := dkwX0_house_1 ++ dktX0_house_2
def dkwX0_house_0 : List UInt8 := [42, 182, 0, 151, 153, 0, 23, 27, 3, 17, 3, 231, 184, 0, 200, 153, 0, 12, 28, 3, 4, 184, 0, 200]
abbrev dktX0_house_0 : List UInt8 := dkwX0_house_0 ++ dktX0_house_1
theorem dksX0_house_0 : cX0_house.data.toList.drop 0 = dktX0_house_0 := by decide +kernel
theorem dksX0_house_1 : cX0_house.data.toList.drop 24 = dktX0_house_1 := dk_seg dksX0_house_0 24 rfl rfl
theorem dksX0_house_2 : cX0_house.data.toList.drop 48 = dktX0_house_2 := dk_seg dksX0_house_1 24 rfl rfl
theorem dksX0_house_3 : cX0_house.data.toList.drop 72 = dktX0_house_3 := dk_seg dksX0_house_2 24 rfl rfl
theorem dksX0_house_4 : cX0_house.data.toList.drop 95 = dktX0_house_4 := dk_seg dksX0_house_3 23 rfl rfl
theorem dksX0_house_5 : cX0_house.data.toList.drop 119 = dktX0_house_5 := dk_seg dksX0_house_4 24 rfl rfl
theorem dksX0_house_6 : cX0_house.data.toList.drop 143 = dktX0_house_6 := dk_seg dksX0_house_5 24 rfl rfl
theorem dksX0_house_7 : cX0_house.data.toList.drop 165 = dktX0_house_7 := dk_seg dksX0_house_6 22 rfl rfl
theorem dksX0_house_8 : cX0_house.data.toList.drop 189 = dktX0_house_8 := dk_seg dksX0_house_7 24 rfl rfl
theorem dksX0_house_9 : cX0_house.data.toList.drop 213 = dktX0_house_9 := dk_seg dksX0_house_8 24 rfl rfl
theorem dX0_house_0 : decode cX0_house 0 = .ok (.aload_n 0, 1) := dk_42 (dk_at dksX0_house_0 0 rfl rfl)
theorem dX0_house_1 : decode cX0_house 1 = .ok (.invokevirtual 151, 3) := dk_182 0 151 (dk_at dksX0_house_0 1 rfl rfl)
theorem dX0_house_4 : decode cX0_house 4 = .ok (.ifCond .eq 23, 3) := dk_153 0 23 (dk_at dksX0_house_0 4 rfl rfl)
theorem dX0_house_7 : decode cX0_house 7 = .ok (.iload_n 1, 1) := dk_27 (dk_at dksX0_house_0 7 rfl rfl)
theorem dX0_house_8 : decode cX0_house 8 = .ok (.iconst 0, 1) := dk_3 (dk_at dksX0_house_0 8 rfl rfl)
theorem dX0_house_9 : decode cX0_house 9 = .ok (.sipush 999, 3) := dk_17 3 231 (dk_at dksX0_house_0 9 rfl rfl)
theorem dX0_house_12 : decode cX0_house 12 = .ok (.invokestatic 200, 3) := dk_184 0 200 (dk_at dksX0_house_0 12 rfl rfl)
theorem dX0_house_15 : decode cX0_house 15 = .ok (.ifCond .eq 12, 3) := dk_153 0 12 (dk_at dksX0_house_0 15 rfl rfl)
theorem dX0_house_18 : decode cX0_house 18 = .ok (.iload_n 2, 1) := dk_28 (dk_at dksX0_house_0 18 rfl rfl)
theorem dX0_house_19 : decode cX0_house 19 = .ok (.iconst 0, 1) := dk_3 (dk_at dksX0_house_0 19 rfl rfl)
theorem dX0_house_20 : decode cX0_house 20 = .ok (.iconst 1, 1) := dk_4 (dk_at dksX0_house_0 20 rfl rfl)
theorem dX0_house_21 : decode cX0_house 21 = .ok (.invokestatic 200, 3) := dk_184 0 200 (dk_at dksX0_house_0 21 rfl rfl)
theorem dX0_house_24 : decode cX0_house 24 = .ok (.ifCond .ne 5, 3) := dk_154 0 5 (dk_at dksX0_house_1 0 rfl rfl)
theorem dX0_house_27 : decode cX0_house 27 = .ok (.iconst (-1), 1) := dk_2 (dk_at dksX0_house_1 3 rfl rfl)
theorem dX0_house_28 : decode cX0_house 28 = .ok (.ireturn, 1) := dk_172 (dk_at dksX0_house_1 4 rfl rfl)
theorem dX0_house_29 : decode cX0_house 29 = .ok (.iconst (-1), 1) := dk_2 (dk_at dksX0_house_1 5 rfl rfl)
theorem dX0_house_30 : decode cX0_house 30 = .ok (.istore_n 3, 1) := dk_62 (dk_at dksX0_house_1 6 rfl rfl)
theorem dX0_house_31 : decode cX0_house 31 = .ok (.iconst 0, 1) := dk_3 (dk_at dksX0_house_1 7 rfl rfl)
theorem dX0_house_32 : decode cX0_house 32 = .ok (.istore 4, 2) := dk_54 4 (dk_at dksX0_house_1 8 rfl rfl)
theorem dX0_house_34 : decode cX0_house 34 = .ok (.iload 4, 2) := dk_21 4 (dk_at dksX0_house_1 10 rfl rfl)
theorem dX0_house_36 : decode cX0_house 36 = .ok (.iconst 1, 1) := dk_4 (dk_at dksX0_house_1 12 rfl rfl)
theorem dX0_house_37 : decode cX0_house 37 = .ok (.aload_n 0, 1) := dk_42 (dk_at dksX0_house_1 13 rfl rfl)
theorem dX0_house_38 : decode cX0_house 38 = .ok (.invokevirtual 149, 3) := dk_182 0 149 (dk_at dksX0_house_1 14 rfl rfl)
theorem dX0_house_41 : decode cX0_house 41 = .ok (.ishl, 1) := dk_120 (dk_at dksX0_house_1 17 rfl rfl)
theorem dX0_house_42 : decode cX0_house 42 = .ok (.if_icmp .ge 166, 3) := dk_162 0 166 (dk_at dksX0_house_1 18 rfl rfl)
theorem dX0_house_45 : decode cX0_house 45 = .ok (.iload 4, 2) := dk_21 4 (dk_at dksX0_house_1 21 rfl rfl)
theorem dX0_house_47 : decode cX0_house 47 = .ok (.aload_n 0, 1) := dk_42 (dk_at dksX0_house_1 23 rfl rfl)
theorem dX0_house_48 : decode cX0_house 48 = .ok (.getfield 71, 3) := dk_180 0 71 (dk_at dksX0_house_2 0 rfl rfl)
theorem dX0_house_51 : decode cX0_house 51 = .ok (.iconst 1, 1) := dk_4 (dk_at dksX0_house_2 3 rfl rfl)
theorem dX0_house_52 : decode cX0_house 52 = .ok (.invokevirtual 180, 3) := dk_182 0 180 (dk_at dksX0_house_2 4 rfl rfl)
theorem dX0_house_55 : decode cX0_house 55 = .ok (.iand, 1) := dk_126 (dk_at dksX0_house_2 7 rfl rfl)
theorem dX0_house_56 : decode cX0_house 56 = .ok (.ifCond .eq 6, 3) := dk_153 0 6 (dk_at dksX0_house_2 8 rfl rfl)
theorem dX0_house_59 : decode cX0_house 59 = .ok (.goto 143, 3) := dk_167 0 143 (dk_at dksX0_house_2 11 rfl rfl)
theorem dX0_house_62 : decode cX0_house 62 = .ok (.aload_n 0, 1) := dk_42 (dk_at dksX0_house_2 14 rfl rfl)
theorem dX0_house_63 : decode cX0_house 63 = .ok (.iload 4, 2) := dk_21 4 (dk_at dksX0_house_2 15 rfl rfl)
theorem dX0_house_65 : decode cX0_house 65 = .ok (.invokevirtual 287, 3) := dk_182 1 31 (dk_at dksX0_house_2 17 rfl rfl)
theorem dX0_house_68 : decode cX0_house 68 = .ok (.istore 5, 2) := dk_54 5 (dk_at dksX0_house_2 20 rfl rfl)
theorem dX0_house_70 : decode cX0_house 70 = .ok (.iload_n 3, 1) := dk_29 (dk_at dksX0_house_2 22 rfl rfl)
theorem dX0_house_71 : decode cX0_house 71 = .ok (.iconst (-1), 1) := dk_2 (dk_at dksX0_house_2 23 rfl rfl)
theorem dX0_house_72 : decode cX0_house 72 = .ok (.if_icmp .eq 39, 3) := dk_159 0 39 (dk_at dksX0_house_3 0 rfl rfl)
theorem dX0_house_75 : decode cX0_house 75 = .ok (.iload 5, 2) := dk_21 5 (dk_at dksX0_house_3 3 rfl rfl)
theorem dX0_house_77 : decode cX0_house 77 = .ok (.aload_n 0, 1) := dk_42 (dk_at dksX0_house_3 5 rfl rfl)
theorem dX0_house_78 : decode cX0_house 78 = .ok (.iload_n 3, 1) := dk_29 (dk_at dksX0_house_3 6 rfl rfl)
theorem dX0_house_79 : decode cX0_house 79 = .ok (.invokevirtual 287, 3) := dk_182 1 31 (dk_at dksX0_house_3 7 rfl rfl)
theorem dX0_house_82 : decode cX0_house 82 = .ok (.if_icmp .gt 25, 3) := dk_163 0 25 (dk_at dksX0_house_3 10 rfl rfl)
theorem dX0_house_85 : decode cX0_house 85 = .ok (.iload 5, 2) := dk_21 5 (dk_at dksX0_house_3 13 rfl rfl)
theorem dX0_house_87 : decode cX0_house 87 = .ok (.aload_n 0, 1) := dk_42 (dk_at dksX0_house_3 15 rfl rfl)
theorem dX0_house_88 : decode cX0_house 88 = .ok (.iload_n 3, 1) := dk_29 (dk_at dksX0_house_3 16 rfl rfl)
theorem dX0_house_89 : decode cX0_house 89 = .ok (.invokevirtual 287, 3) := dk_182 1 31 (dk_at dksX0_house_3 17 rfl rfl)
theorem dX0_house_92 : decode cX0_house 92 = .ok (.if_icmp .ne 19, 3) := dk_160 0 19 (dk_at dksX0_house_3 20 rfl rfl)
theorem dX0_house_95 : decode cX0_house 95 = .ok (.iload 4, 2) := dk_21 4 (dk_at dksX0_house_4 0 rfl rfl)
theorem dX0_house_97 : decode cX0_house 97 = .ok (.invokestatic 183, 3) := dk_184 0 183 (dk_at dksX0_house_4 2 rfl rfl)
theorem dX0_house_100 : decode cX0_house 100 = .ok (.iload_n 3, 1) := dk_29 (dk_at dksX0_house_4 5 rfl rfl)
theorem dX0_house_101 : decode cX0_house 101 = .ok (.invokestatic 183, 3) := dk_184 0 183 (dk_at dksX0_house_4 6 rfl rfl)
theorem dX0_house_104 : decode cX0_house 104 = .ok (.if_icmp .lt 7, 3) := dk_161 0 7 (dk_at dksX0_house_4 9 rfl rfl)
theorem dX0_house_107 : decode cX0_house 107 = .ok (.iconst 1, 1) := dk_4 (dk_at dksX0_house_4 12 rfl rfl)
theorem dX0_house_108 : decode cX0_house 108 = .ok (.goto 4, 3) := dk_167 0 4 (dk_at dksX0_house_4 13 rfl rfl)
theorem dX0_house_111 : decode cX0_house 111 = .ok (.iconst 0, 1) := dk_3 (dk_at dksX0_house_4 16 rfl rfl)
theorem dX0_house_112 : decode cX0_house 112 = .ok (.istore 6, 2) := dk_54 6 (dk_at dksX0_house_4 17 rfl rfl)
theorem dX0_house_114 : decode cX0_house 114 = .ok (.iload 6, 2) := dk_21 6 (dk_at dksX0_house_4 19 rfl rfl)
theorem dX0_house_116 : decode cX0_house 116 = .ok (.ifCond .eq 6, 3) := dk_153 0 6 (dk_at dksX0_house_4 21 rfl rfl)
theorem dX0_house_119 : decode cX0_house 119 = .ok (.goto 83, 3) := dk_167 0 83 (dk_at dksX0_house_5 0 rfl rfl)
theorem dX0_house_122 : decode cX0_house 122 = .ok (.aload_n 0, 1) := dk_42 (dk_at dksX0_house_5 3 rfl rfl)
theorem dX0_house_123 : decode cX0_house 123 = .ok (.getfield 75, 3) := dk_180 0 75 (dk_at dksX0_house_5 4 rfl rfl)
theorem dX0_house_126 : decode cX0_house 126 = .ok (.aload_n 0, 1) := dk_42 (dk_at dksX0_house_5 7 rfl rfl)
theorem dX0_house_127 : decode cX0_house 127 = .ok (.getfield 71, 3) := dk_180 0 71 (dk_at dksX0_house_5 8 rfl rfl)
theorem dX0_house_130 : decode cX0_house 130 = .ok (.invokevirtual 277, 3) := dk_182 1 21 (dk_at dksX0_house_5 11 rfl rfl)
theorem dX0_house_133 : decode cX0_house 133 = .ok (.pop, 1) := dk_87 (dk_at dksX0_house_5 14 rfl rfl)
theorem dX0_house_134 : decode cX0_house 134 = .ok (.iconst 0, 1) := dk_3 (dk_at dksX0_house_5 15 rfl rfl)
theorem dX0_house_135 : decode cX0_house 135 = .ok (.istore 7, 2) := dk_54 7 (dk_at dksX0_house_5 16 rfl rfl)
theorem dX0_house_137 : decode cX0_house 137 = .ok (.iload 7, 2) := dk_21 7 (dk_at dksX0_house_5 18 rfl rfl)
theorem dX0_house_139 : decode cX0_house 139 = .ok (.aload_n 0, 1) := dk_42 (dk_at dksX0_house_5 20 rfl rfl)
theorem dX0_house_140 : decode cX0_house 140 = .ok (.invokevirtual 149, 3) := dk_182 0 149 (dk_at dksX0_house_5 21 rfl rfl)
theorem dX0_house_143 : decode cX0_house 143 = .ok (.if_icmp .ge 41, 3) := dk_162 0 41 (dk_at dksX0_house_6 0 rfl rfl)
theorem dX0_house_146 : decode cX0_house 146 = .ok (.iload 4, 2) := dk_21 4 (dk_at dksX0_house_6 3 rfl rfl)
theorem dX0_house_148 : decode cX0_house 148 = .ok (.iload 7, 2) := dk_21 7 (dk_at dksX0_house_6 5 rfl rfl)
theorem dX0_house_150 : decode cX0_house 150 = .ok (.invokestatic 163, 3) := dk_184 0 163 (dk_at dksX0_house_6 7 rfl rfl)
theorem dX0_house_153 : decode cX0_house 153 = .ok (.ifCond .ne 6, 3) := dk_154 0 6 (dk_at dksX0_house_6 10 rfl rfl)
theorem dX0_house_156 : decode cX0_house 156 = .ok (.goto 22, 3) := dk_167 0 22 (dk_at dksX0_house_6 13 rfl rfl)
theorem dX0_house_159 : decode cX0_house 159 = .ok (.aload_n 0, 1) := dk_42 (dk_at dksX0_house_6 16 rfl rfl)
theorem dX0_house_160 : decode cX0_house 160 = .ok (.getfield 75, 3) := dk_180 0 75 (dk_at dksX0_house_6 17 rfl rfl)
theorem dX0_house_163 : decode cX0_house 163 = .ok (.iload 7, 2) := dk_21 7 (dk_at dksX0_house_6 20 rfl rfl)
theorem dX0_house_165 : decode cX0_house 165 = .ok (.invokevirtual 290, 3) := dk_182 1 34 (dk_at dksX0_house_7 0 rfl rfl)
theorem dX0_house_168 : decode cX0_house 168 = .ok (.aload_n 0, 1) := dk_42 (dk_at dksX0_house_7 3 rfl rfl)
theorem dX0_house_169 : decode cX0_house 169 = .ok (.getfield 75, 3) := dk_180 0 75 (dk_at dksX0_house_7 4 rfl rfl)
theorem dX0_house_172 : decode cX0_house 172 = .ok (.iload 7, 2) := dk_21 7 (dk_at dksX0_house_7 7 rfl rfl)
theorem dX0_house_174 : decode cX0_house 174 = .ok (.iconst 0, 1) := dk_3 (dk_at dksX0_house_7 9 rfl rfl)
theorem dX0_house_175 : decode cX0_house 175 = .ok (.invokevirtual 292, 3) := dk_182 1 36 (dk_at dksX0_house_7 10 rfl rfl)
theorem dX0_house_178 : decode cX0_house 178 = .ok (.iinc 7 1, 3) := dk_132 7 1 (dk_at dksX0_house_7 13 rfl rfl)
theorem dX0_house_181 : decode cX0_house 181 = .ok (.goto (-44), 3) := dk_167 255 212 (dk_at dksX0_house_7 16 rfl rfl)
theorem dX0_house_184 : decode cX0_house 184 = .ok (.aload_n 0, 1) := dk_42 (dk_at dksX0_house_7 19 rfl rfl)
theorem dX0_house_185 : decode cX0_house 185 = .ok (.aload_n 0, 1) := dk_42 (dk_at dksX0_house_7 20 rfl rfl)
theorem dX0_house_186 : decode cX0_house 186 = .ok (.getfield 75, 3) := dk_180 0 75 (dk_at dksX0_house_7 21 rfl rfl)
theorem dX0_house_189 : decode cX0_house 189 = .ok (.invokevirtual 188, 3) := dk_182 0 188 (dk_at dksX0_house_8 0 rfl rfl)
theorem dX0_house_192 : decode cX0_house 192 = .ok (.invokevirtual 194, 3) := dk_182 0 194 (dk_at dksX0_house_8 3 rfl rfl)
theorem dX0_house_195 : decode cX0_house 195 = .ok (.iload_n 1, 1) := dk_27 (dk_at dksX0_house_8 6 rfl rfl)
theorem dX0_house_196 : decode cX0_house 196 = .ok (.if_icmp .lt 6, 3) := dk_161 0 6 (dk_at dksX0_house_8 7 rfl rfl)
theorem dX0_house_199 : decode cX0_house 199 = .ok (.iload 4, 2) := dk_21 4 (dk_at dksX0_house_8 10 rfl rfl)
theorem dX0_house_201 : decode cX0_house 201 = .ok (.istore_n 3, 1) := dk_62 (dk_at dksX0_house_8 12 rfl rfl)
theorem dX0_house_202 : decode cX0_house 202 = .ok (.iinc 4 1, 3) := dk_132 4 1 (dk_at dksX0_house_8 13 rfl rfl)
theorem dX0_house_205 : decode cX0_house 205 = .ok (.goto (-171), 3) := dk_167 255 85 (dk_at dksX0_house_8 16 rfl rfl)
theorem dX0_house_208 : decode cX0_house 208 = .ok (.iload_n 3, 1) := dk_29 (dk_at dksX0_house_8 19 rfl rfl)
theorem dX0_house_209 : decode cX0_house 209 = .ok (.iconst (-1), 1) := dk_2 (dk_at dksX0_house_8 20 rfl rfl)
theorem dX0_house_210 : decode cX0_house 210 = .ok (.if_icmp .eq 7, 3) := dk_159 0 7 (dk_at dksX0_house_8 21 rfl rfl)
theorem dX0_house_213 : decode cX0_house 213 = .ok (.iload_n 2, 1) := dk_28 (dk_at dksX0_house_9 0 rfl rfl)
theorem dX0_house_214 : decode cX0_house 214 = .ok (.ifCond .ne 7, 3) := dk_154 0 7 (dk_at dksX0_house_9 1 rfl rfl)
theorem dX0_house_217 : decode cX0_house 217 = .ok (.iload_n 3, 1) := dk_29 (dk_at dksX0_house_9 4 rfl rfl)
theorem dX0_house_218 : decode cX0_house 218 = .ok (.goto 8, 3) := dk_167 0 8 (dk_at dksX0_house_9 5 rfl rfl)
theorem dX0_house_221 : decode cX0_house 221 = .ok (.aload_n 0, 1) := dk_42 (dk_at dksX0_house_9 8 rfl rfl)
theorem dX0_house_222 : decode cX0_house 222 = .ok (.iload_n 3, 1) := dk_29 (dk_at dksX0_house_9 9 rfl rfl)
theorem dX0_house_223 : decode cX0_house 223 = .ok (.invokevirtual 287, 3) := dk_182 1 31 (dk_at dksX0_house_9 10 rfl rfl)
theorem dX0_house_226 : decode cX0_house 226 = .ok (.ireturn, 1) := dk_172 (dk_at dksX0_house_9 13 rfl rfl)
abbrev cX0_worthOf : ByteArray := prog_1_method_24_code
def yX0_worthOf : MethodName := ⟨RX0, "worthOf", "(I)I"⟩
def dkwX0_worthOf_1 : List UInt8 := [182, 0, 167, 180, 0, 174, 167, 0, 4, 3, 96, 61, 132, 3, 1, 167, 255, 222, 28, 172]
abbrev dktX0_worthOf_1 : List UInt8 := dkwX0_worthOf_1 ++ []
def dkwX0_worthOf_0 : List UInt8 := [3, 61, 3, 62, 29, 42, 182, 0, 149, 162, 0, 32, 28, 27, 29, 184, 0, 163, 153, 0, 14, 42, 29]
abbrev dktX0_worthOf_0 : List UInt8 := dkwX0_worthOf_0 ++ dktX0_worthOf_1
theorem dksX0_worthOf_0 : cX0_worthOf.data.toList.drop 0 = dktX0_worthOf_0 := by decide +kernel
theorem dksX0_worthOf_1 : cX0_worthOf.data.toList.drop 23 = dktX0_worthOf_1 := dk_seg dksX0_worthOf_0 23 rfl rfl
theorem dX0_worthOf_0 : decode cX0_worthOf 0 = .ok (.iconst 0, 1) := dk_3 (dk_at dksX0_worthOf_0 0 rfl rfl)
theorem dX0_worthOf_1 : decode cX0_worthOf 1 = .ok (.istore_n 2, 1) := dk_61 (dk_at dksX0_worthOf_0 1 rfl rfl)
theorem dX0_worthOf_2 : decode cX0_worthOf 2 = .ok (.iconst 0, 1) := dk_3 (dk_at dksX0_worthOf_0 2 rfl rfl)
theorem dX0_worthOf_3 : decode cX0_worthOf 3 = .ok (.istore_n 3, 1) := dk_62 (dk_at dksX0_worthOf_0 3 rfl rfl)
theorem dX0_worthOf_4 : decode cX0_worthOf 4 = .ok (.iload_n 3, 1) := dk_29 (dk_at dksX0_worthOf_0 4 rfl rfl)
theorem dX0_worthOf_5 : decode cX0_worthOf 5 = .ok (.aload_n 0, 1) := dk_42 (dk_at dksX0_worthOf_0 5 rfl rfl)
theorem dX0_worthOf_6 : decode cX0_worthOf 6 = .ok (.invokevirtual 149, 3) := dk_182 0 149 (dk_at dksX0_worthOf_0 6 rfl rfl)
theorem dX0_worthOf_9 : decode cX0_worthOf 9 = .ok (.if_icmp .ge 32, 3) := dk_162 0 32 (dk_at dksX0_worthOf_0 9 rfl rfl)
theorem dX0_worthOf_12 : decode cX0_worthOf 12 = .ok (.iload_n 2, 1) := dk_28 (dk_at dksX0_worthOf_0 12 rfl rfl)
theorem dX0_worthOf_13 : decode cX0_worthOf 13 = .ok (.iload_n 1, 1) := dk_27 (dk_at dksX0_worthOf_0 13 rfl rfl)
theorem dX0_worthOf_14 : decode cX0_worthOf 14 = .ok (.iload_n 3, 1) := dk_29 (dk_at dksX0_worthOf_0 14 rfl rfl)
theorem dX0_worthOf_15 : decode cX0_worthOf 15 = .ok (.invokestatic 163, 3) := dk_184 0 163 (dk_at dksX0_worthOf_0 15 rfl rfl)
theorem dX0_worthOf_18 : decode cX0_worthOf 18 = .ok (.ifCond .eq 14, 3) := dk_153 0 14 (dk_at dksX0_worthOf_0 18 rfl rfl)
theorem dX0_worthOf_21 : decode cX0_worthOf 21 = .ok (.aload_n 0, 1) := dk_42 (dk_at dksX0_worthOf_0 21 rfl rfl)
theorem dX0_worthOf_22 : decode cX0_worthOf 22 = .ok (.iload_n 3, 1) := dk_29 (dk_at dksX0_worthOf_0 22 rfl rfl)
theorem dX0_worthOf_23 : decode cX0_worthOf 23 = .ok (.invokevirtual 167, 3) := dk_182 0 167 (dk_at dksX0_worthOf_1 0 rfl rfl)
theorem dX0_worthOf_26 : decode cX0_worthOf 26 = .ok (.getfield 174, 3) := dk_180 0 174 (dk_at dksX0_worthOf_1 3 rfl rfl)
theorem dX0_worthOf_29 : decode cX0_worthOf 29 = .ok (.goto 4, 3) := dk_167 0 4 (dk_at dksX0_worthOf_1 6 rfl rfl)
theorem dX0_worthOf_32 : decode cX0_worthOf 32 = .ok (.iconst 0, 1) := dk_3 (dk_at dksX0_worthOf_1 9 rfl rfl)
theorem dX0_worthOf_33 : decode cX0_worthOf 33 = .ok (.iadd, 1) := dk_96 (dk_at dksX0_worthOf_1 10 rfl rfl)
theorem dX0_worthOf_34 : decode cX0_worthOf 34 = .ok (.istore_n 2, 1) := dk_61 (dk_at dksX0_worthOf_1 11 rfl rfl)
theorem dX0_worthOf_35 : decode cX0_worthOf 35 = .ok (.iinc 3 1, 3) := dk_132 3 1 (dk_at dksX0_worthOf_1 12 rfl rfl)
theorem dX0_worthOf_38 : decode cX0_worthOf 38 = .ok (.goto (-34), 3) := dk_167 255 222 (dk_at dksX0_worthOf_1 15 rfl rfl)
theorem dX0_worthOf_41 : decode cX0_worthOf 41 = .ok (.iload_n 2, 1) := dk_28 (dk_at dksX0_worthOf_1 18 rfl rfl)
theorem dX0_worthOf_42 : decode cX0_worthOf 42 = .ok (.ireturn, 1) := dk_172 (dk_at dksX0_worthOf_1 19 rfl rfl)
abbrev cX0_gain : ByteArray := prog_1_method_38_code
def yX0_gain : MethodName := ⟨RX0, "gain", "(II)J"⟩
def dkwX0_gain_3 : List UInt8 := [182, 0, 194, 100, 133, 173]
abbrev dktX0_gain_3 : List UInt8 := dkwX0_gain_3 ++ []
def dkwX0_gain_2 : List UInt8 := [182, 1, 36, 42, 42, 180, 0, 75, 182, 0, 188, 182, 0, 194, 42, 42, 180, 0, 71, 182, 0, 188]
abbrev dktX0_gain_2 : List UInt8 := dkwX0_gain_2 ++ dktX0_gain_3
def dkwX0_gain_1 : List UInt8 := [46, 4, 159, 0, 7, 20, 1, 40, 173, 42, 180, 0, 75, 42, 180, 0, 71, 182, 1, 21, 27, 28]
abbrev dktX0_gain_1 : List UInt8 := dkwX0_gain_1 ++ dktX0_gain_2
def dkwX0_gain_0 : List UInt8 := [42, 27, 182, 0, 209, 153, 0, 24, 42, 28, 182, 0, 234, 153, 0, 16, 42, 180, 0, 71, 180, 0, 216, 27]
abbrev dktX0_gain_0 : List UInt8 := dkwX0_gain_0 ++ dktX0_gain_1
theorem dksX0_gain_0 : cX0_gain.data.toList.drop 0 = dktX0_gain_0 := by decide +kernel
theorem dksX0_gain_1 : cX0_gain.data.toList.drop 24 = dktX0_gain_1 := dk_seg dksX0_gain_0 24 rfl rfl
theorem dksX0_gain_2 : cX0_gain.data.toList.drop 46 = dktX0_gain_2 := dk_seg dksX0_gain_1 22 rfl rfl
theorem dksX0_gain_3 : cX0_gain.data.toList.drop 68 = dktX0_gain_3 := dk_seg dksX0_gain_2 22 rfl rfl
theorem dX0_gain_0 : decode cX0_gain 0 = .ok (.aload_n 0, 1) := dk_42 (dk_at dksX0_gain_0 0 rfl rfl)
theorem dX0_gain_1 : decode cX0_gain 1 = .ok (.iload_n 1, 1) := dk_27 (dk_at dksX0_gain_0 1 rfl rfl)
theorem dX0_gain_2 : decode cX0_gain 2 = .ok (.invokevirtual 209, 3) := dk_182 0 209 (dk_at dksX0_gain_0 2 rfl rfl)
theorem dX0_gain_5 : decode cX0_gain 5 = .ok (.ifCond .eq 24, 3) := dk_153 0 24 (dk_at dksX0_gain_0 5 rfl rfl)
theorem dX0_gain_8 : decode cX0_gain 8 = .ok (.aload_n 0, 1) := dk_42 (dk_at dksX0_gain_0 8 rfl rfl)
theorem dX0_gain_9 : decode cX0_gain 9 = .ok (.iload_n 2, 1) := dk_28 (dk_at dksX0_gain_0 9 rfl rfl)
theorem dX0_gain_10 : decode cX0_gain 10 = .ok (.invokevirtual 234, 3) := dk_182 0 234 (dk_at dksX0_gain_0 10 rfl rfl)
theorem dX0_gain_13 : decode cX0_gain 13 = .ok (.ifCond .eq 16, 3) := dk_153 0 16 (dk_at dksX0_gain_0 13 rfl rfl)
theorem dX0_gain_16 : decode cX0_gain 16 = .ok (.aload_n 0, 1) := dk_42 (dk_at dksX0_gain_0 16 rfl rfl)
theorem dX0_gain_17 : decode cX0_gain 17 = .ok (.getfield 71, 3) := dk_180 0 71 (dk_at dksX0_gain_0 17 rfl rfl)
theorem dX0_gain_20 : decode cX0_gain 20 = .ok (.getfield 216, 3) := dk_180 0 216 (dk_at dksX0_gain_0 20 rfl rfl)
theorem dX0_gain_23 : decode cX0_gain 23 = .ok (.iload_n 1, 1) := dk_27 (dk_at dksX0_gain_0 23 rfl rfl)
theorem dX0_gain_24 : decode cX0_gain 24 = .ok (.iaload, 1) := dk_46 (dk_at dksX0_gain_1 0 rfl rfl)
theorem dX0_gain_25 : decode cX0_gain 25 = .ok (.iconst 1, 1) := dk_4 (dk_at dksX0_gain_1 1 rfl rfl)
theorem dX0_gain_26 : decode cX0_gain 26 = .ok (.if_icmp .eq 7, 3) := dk_159 0 7 (dk_at dksX0_gain_1 2 rfl rfl)
theorem dX0_gain_29 : decode cX0_gain 29 = .ok (.ldc2_w 296, 3) := dk_20 1 40 (dk_at dksX0_gain_1 5 rfl rfl)
theorem dX0_gain_32 : decode cX0_gain 32 = .ok (.lreturn, 1) := dk_173 (dk_at dksX0_gain_1 8 rfl rfl)
theorem dX0_gain_33 : decode cX0_gain 33 = .ok (.aload_n 0, 1) := dk_42 (dk_at dksX0_gain_1 9 rfl rfl)
theorem dX0_gain_34 : decode cX0_gain 34 = .ok (.getfield 75, 3) := dk_180 0 75 (dk_at dksX0_gain_1 10 rfl rfl)
theorem dX0_gain_37 : decode cX0_gain 37 = .ok (.aload_n 0, 1) := dk_42 (dk_at dksX0_gain_1 13 rfl rfl)
theorem dX0_gain_38 : decode cX0_gain 38 = .ok (.getfield 71, 3) := dk_180 0 71 (dk_at dksX0_gain_1 14 rfl rfl)
theorem dX0_gain_41 : decode cX0_gain 41 = .ok (.invokevirtual 277, 3) := dk_182 1 21 (dk_at dksX0_gain_1 17 rfl rfl)
theorem dX0_gain_44 : decode cX0_gain 44 = .ok (.iload_n 1, 1) := dk_27 (dk_at dksX0_gain_1 20 rfl rfl)
theorem dX0_gain_45 : decode cX0_gain 45 = .ok (.iload_n 2, 1) := dk_28 (dk_at dksX0_gain_1 21 rfl rfl)
theorem dX0_gain_46 : decode cX0_gain 46 = .ok (.invokevirtual 292, 3) := dk_182 1 36 (dk_at dksX0_gain_2 0 rfl rfl)
theorem dX0_gain_49 : decode cX0_gain 49 = .ok (.aload_n 0, 1) := dk_42 (dk_at dksX0_gain_2 3 rfl rfl)
theorem dX0_gain_50 : decode cX0_gain 50 = .ok (.aload_n 0, 1) := dk_42 (dk_at dksX0_gain_2 4 rfl rfl)
theorem dX0_gain_51 : decode cX0_gain 51 = .ok (.getfield 75, 3) := dk_180 0 75 (dk_at dksX0_gain_2 5 rfl rfl)
theorem dX0_gain_54 : decode cX0_gain 54 = .ok (.invokevirtual 188, 3) := dk_182 0 188 (dk_at dksX0_gain_2 8 rfl rfl)
theorem dX0_gain_57 : decode cX0_gain 57 = .ok (.invokevirtual 194, 3) := dk_182 0 194 (dk_at dksX0_gain_2 11 rfl rfl)
theorem dX0_gain_60 : decode cX0_gain 60 = .ok (.aload_n 0, 1) := dk_42 (dk_at dksX0_gain_2 14 rfl rfl)
theorem dX0_gain_61 : decode cX0_gain 61 = .ok (.aload_n 0, 1) := dk_42 (dk_at dksX0_gain_2 15 rfl rfl)
theorem dX0_gain_62 : decode cX0_gain 62 = .ok (.getfield 71, 3) := dk_180 0 71 (dk_at dksX0_gain_2 16 rfl rfl)
theorem dX0_gain_65 : decode cX0_gain 65 = .ok (.invokevirtual 188, 3) := dk_182 0 188 (dk_at dksX0_gain_2 19 rfl rfl)
theorem dX0_gain_68 : decode cX0_gain 68 = .ok (.invokevirtual 194, 3) := dk_182 0 194 (dk_at dksX0_gain_3 0 rfl rfl)
theorem dX0_gain_71 : decode cX0_gain 71 = .ok (.isub, 1) := dk_100 (dk_at dksX0_gain_3 3 rfl rfl)
theorem dX0_gain_72 : decode cX0_gain 72 = .ok (.i2l, 1) := dk_133 (dk_at dksX0_gain_3 4 rfl rfl)
theorem dX0_gain_73 : decode cX0_gain 73 = .ok (.lreturn, 1) := dk_173 (dk_at dksX0_gain_3 5 rfl rfl)
abbrev cX0_row : ByteArray := prog_1_method_40_code
def yX0_row : MethodName := ⟨RX0, "row", "(I)I"⟩
def dkwX0_row_3 : List UInt8 := [167, 0, 9, 42, 180, 0, 81, 27, 46, 172]
abbrev dktX0_row_3 : List UInt8 := dkwX0_row_3 ++ []
def dkwX0_row_2 : List UInt8 := [19, 1, 49, 181, 1, 42, 42, 28, 3, 3, 3, 182, 1, 45, 27, 2, 160, 0, 10, 42, 180, 1, 42]
abbrev dktX0_row_2 : List UInt8 := dkwX0_row_2 ++ dktX0_row_3
def dkwX0_row_1 : List UInt8 := [153, 0, 19, 27, 2, 159, 0, 16, 27, 3, 29, 4, 100, 184, 0, 200, 154, 0, 5, 2, 172, 42]
abbrev dktX0_row_1 : List UInt8 := dkwX0_row_1 ++ dktX0_row_2
def dkwX0_row_0 : List UInt8 := [42, 180, 0, 71, 4, 182, 0, 180, 61, 28, 184, 0, 183, 62, 29, 16, 6, 163, 0, 26, 42, 182, 0, 151]
abbrev dktX0_row_0 : List UInt8 := dkwX0_row_0 ++ dktX0_row_1
theorem dksX0_row_0 : cX0_row.data.toList.drop 0 = dktX0_row_0 := by decide +kernel
theorem dksX0_row_1 : cX0_row.data.toList.drop 24 = dktX0_row_1 := dk_seg dksX0_row_0 24 rfl rfl
theorem dksX0_row_2 : cX0_row.data.toList.drop 46 = dktX0_row_2 := dk_seg dksX0_row_1 22 rfl rfl
theorem dksX0_row_3 : cX0_row.data.toList.drop 69 = dktX0_row_3 := dk_seg dksX0_row_2 23 rfl rfl
theorem dX0_row_0 : decode cX0_row 0 = .ok (.aload_n 0, 1) := dk_42 (dk_at dksX0_row_0 0 rfl rfl)
theorem dX0_row_1 : decode cX0_row 1 = .ok (.getfield 71, 3) := dk_180 0 71 (dk_at dksX0_row_0 1 rfl rfl)
theorem dX0_row_4 : decode cX0_row 4 = .ok (.iconst 1, 1) := dk_4 (dk_at dksX0_row_0 4 rfl rfl)
theorem dX0_row_5 : decode cX0_row 5 = .ok (.invokevirtual 180, 3) := dk_182 0 180 (dk_at dksX0_row_0 5 rfl rfl)
theorem dX0_row_8 : decode cX0_row 8 = .ok (.istore_n 2, 1) := dk_61 (dk_at dksX0_row_0 8 rfl rfl)
theorem dX0_row_9 : decode cX0_row 9 = .ok (.iload_n 2, 1) := dk_28 (dk_at dksX0_row_0 9 rfl rfl)
theorem dX0_row_10 : decode cX0_row 10 = .ok (.invokestatic 183, 3) := dk_184 0 183 (dk_at dksX0_row_0 10 rfl rfl)
theorem dX0_row_13 : decode cX0_row 13 = .ok (.istore_n 3, 1) := dk_62 (dk_at dksX0_row_0 13 rfl rfl)
theorem dX0_row_14 : decode cX0_row 14 = .ok (.iload_n 3, 1) := dk_29 (dk_at dksX0_row_0 14 rfl rfl)
theorem dX0_row_15 : decode cX0_row 15 = .ok (.bipush 6, 2) := dk_16 6 (dk_at dksX0_row_0 15 rfl rfl)
theorem dX0_row_17 : decode cX0_row 17 = .ok (.if_icmp .gt 26, 3) := dk_163 0 26 (dk_at dksX0_row_0 17 rfl rfl)
theorem dX0_row_20 : decode cX0_row 20 = .ok (.aload_n 0, 1) := dk_42 (dk_at dksX0_row_0 20 rfl rfl)
theorem dX0_row_21 : decode cX0_row 21 = .ok (.invokevirtual 151, 3) := dk_182 0 151 (dk_at dksX0_row_0 21 rfl rfl)
theorem dX0_row_24 : decode cX0_row 24 = .ok (.ifCond .eq 19, 3) := dk_153 0 19 (dk_at dksX0_row_1 0 rfl rfl)
theorem dX0_row_27 : decode cX0_row 27 = .ok (.iload_n 1, 1) := dk_27 (dk_at dksX0_row_1 3 rfl rfl)
theorem dX0_row_28 : decode cX0_row 28 = .ok (.iconst (-1), 1) := dk_2 (dk_at dksX0_row_1 4 rfl rfl)
theorem dX0_row_29 : decode cX0_row 29 = .ok (.if_icmp .eq 16, 3) := dk_159 0 16 (dk_at dksX0_row_1 5 rfl rfl)
theorem dX0_row_32 : decode cX0_row 32 = .ok (.iload_n 1, 1) := dk_27 (dk_at dksX0_row_1 8 rfl rfl)
theorem dX0_row_33 : decode cX0_row 33 = .ok (.iconst 0, 1) := dk_3 (dk_at dksX0_row_1 9 rfl rfl)
theorem dX0_row_34 : decode cX0_row 34 = .ok (.iload_n 3, 1) := dk_29 (dk_at dksX0_row_1 10 rfl rfl)
theorem dX0_row_35 : decode cX0_row 35 = .ok (.iconst 1, 1) := dk_4 (dk_at dksX0_row_1 11 rfl rfl)
theorem dX0_row_36 : decode cX0_row 36 = .ok (.isub, 1) := dk_100 (dk_at dksX0_row_1 12 rfl rfl)
theorem dX0_row_37 : decode cX0_row 37 = .ok (.invokestatic 200, 3) := dk_184 0 200 (dk_at dksX0_row_1 13 rfl rfl)
theorem dX0_row_40 : decode cX0_row 40 = .ok (.ifCond .ne 5, 3) := dk_154 0 5 (dk_at dksX0_row_1 16 rfl rfl)
theorem dX0_row_43 : decode cX0_row 43 = .ok (.iconst (-1), 1) := dk_2 (dk_at dksX0_row_1 19 rfl rfl)
theorem dX0_row_44 : decode cX0_row 44 = .ok (.ireturn, 1) := dk_172 (dk_at dksX0_row_1 20 rfl rfl)
theorem dX0_row_45 : decode cX0_row 45 = .ok (.aload_n 0, 1) := dk_42 (dk_at dksX0_row_1 21 rfl rfl)
theorem dX0_row_46 : decode cX0_row 46 = .ok (.ldc_w 305, 3) := dk_19 1 49 (dk_at dksX0_row_2 0 rfl rfl)
theorem dX0_row_49 : decode cX0_row 49 = .ok (.putfield 298, 3) := dk_181 1 42 (dk_at dksX0_row_2 3 rfl rfl)
theorem dX0_row_52 : decode cX0_row 52 = .ok (.aload_n 0, 1) := dk_42 (dk_at dksX0_row_2 6 rfl rfl)
theorem dX0_row_53 : decode cX0_row 53 = .ok (.iload_n 2, 1) := dk_28 (dk_at dksX0_row_2 7 rfl rfl)
theorem dX0_row_54 : decode cX0_row 54 = .ok (.iconst 0, 1) := dk_3 (dk_at dksX0_row_2 8 rfl rfl)
theorem dX0_row_55 : decode cX0_row 55 = .ok (.iconst 0, 1) := dk_3 (dk_at dksX0_row_2 9 rfl rfl)
theorem dX0_row_56 : decode cX0_row 56 = .ok (.iconst 0, 1) := dk_3 (dk_at dksX0_row_2 10 rfl rfl)
theorem dX0_row_57 : decode cX0_row 57 = .ok (.invokevirtual 301, 3) := dk_182 1 45 (dk_at dksX0_row_2 11 rfl rfl)
theorem dX0_row_60 : decode cX0_row 60 = .ok (.iload_n 1, 1) := dk_27 (dk_at dksX0_row_2 14 rfl rfl)
theorem dX0_row_61 : decode cX0_row 61 = .ok (.iconst (-1), 1) := dk_2 (dk_at dksX0_row_2 15 rfl rfl)
theorem dX0_row_62 : decode cX0_row 62 = .ok (.if_icmp .ne 10, 3) := dk_160 0 10 (dk_at dksX0_row_2 16 rfl rfl)
theorem dX0_row_65 : decode cX0_row 65 = .ok (.aload_n 0, 1) := dk_42 (dk_at dksX0_row_2 19 rfl rfl)
theorem dX0_row_66 : decode cX0_row 66 = .ok (.getfield 298, 3) := dk_180 1 42 (dk_at dksX0_row_2 20 rfl rfl)
theorem dX0_row_69 : decode cX0_row 69 = .ok (.goto 9, 3) := dk_167 0 9 (dk_at dksX0_row_3 0 rfl rfl)
theorem dX0_row_72 : decode cX0_row 72 = .ok (.aload_n 0, 1) := dk_42 (dk_at dksX0_row_3 3 rfl rfl)
theorem dX0_row_73 : decode cX0_row 73 = .ok (.getfield 81, 3) := dk_180 0 81 (dk_at dksX0_row_3 4 rfl rfl)
theorem dX0_row_76 : decode cX0_row 76 = .ok (.iload_n 1, 1) := dk_27 (dk_at dksX0_row_3 7 rfl rfl)
theorem dX0_row_77 : decode cX0_row 77 = .ok (.iaload, 1) := dk_46 (dk_at dksX0_row_3 8 rfl rfl)
theorem dX0_row_78 : decode cX0_row 78 = .ok (.ireturn, 1) := dk_172 (dk_at dksX0_row_3 9 rfl rfl)
abbrev cX0_places : ByteArray := prog_1_method_39_code
def yX0_places : MethodName := ⟨RX0, "places", "(IIII)V"⟩
def dkwX0_places_5 : List UInt8 := [21, 5, 182, 0, 167, 180, 0, 171, 21, 6, 104, 96, 182, 1, 45, 132, 5, 1, 167, 255, 178, 177]
abbrev dktX0_places_5 : List UInt8 := dkwX0_places_5 ++ []
def dkwX0_places_4 : List UInt8 := [182, 0, 247, 96, 54, 6, 42, 27, 4, 21, 5, 120, 2, 130, 126, 28, 4, 96, 21, 6, 21, 4, 42]
abbrev dktX0_places_4 : List UInt8 := dkwX0_places_4 ++ dktX0_places_5
def dkwX0_places_3 : List UInt8 := [154, 0, 6, 167, 0, 57, 42, 180, 0, 78, 28, 21, 5, 79, 29, 42, 180, 0, 71, 21, 5, 3]
abbrev dktX0_places_3 : List UInt8 := dkwX0_places_3 ++ dktX0_places_4
def dkwX0_places_2 : List UInt8 := [167, 255, 233, 177, 3, 54, 5, 21, 5, 42, 182, 0, 149, 162, 0, 75, 27, 21, 5, 184, 0, 163]
abbrev dktX0_places_2 : List UInt8 := dkwX0_places_2 ++ dktX0_places_3
def dkwX0_places_1 : List UInt8 := [21, 5, 28, 162, 0, 23, 42, 180, 0, 81, 21, 5, 42, 180, 0, 78, 21, 5, 46, 79, 132, 5, 1]
abbrev dktX0_places_1 : List UInt8 := dkwX0_places_1 ++ dktX0_places_2
def dkwX0_places_0 : List UInt8 := [21, 4, 42, 180, 1, 42, 161, 0, 4, 177, 27, 154, 0, 39, 42, 21, 4, 181, 1, 42, 3, 54, 5]
abbrev dktX0_places_0 : List UInt8 := dkwX0_places_0 ++ dktX0_places_1
theorem dksX0_places_0 : cX0_places.data.toList.drop 0 = dktX0_places_0 := by decide +kernel
theorem dksX0_places_1 : cX0_places.data.toList.drop 23 = dktX0_places_1 := dk_seg dksX0_places_0 23 rfl rfl
theorem dksX0_places_2 : cX0_places.data.toList.drop 46 = dktX0_places_2 := dk_seg dksX0_places_1 23 rfl rfl
theorem dksX0_places_3 : cX0_places.data.toList.drop 68 = dktX0_places_3 := dk_seg dksX0_places_2 22 rfl rfl
theorem dksX0_places_4 : cX0_places.data.toList.drop 90 = dktX0_places_4 := dk_seg dksX0_places_3 22 rfl rfl
theorem dksX0_places_5 : cX0_places.data.toList.drop 113 = dktX0_places_5 := dk_seg dksX0_places_4 23 rfl rfl
theorem dX0_places_0 : decode cX0_places 0 = .ok (.iload 4, 2) := dk_21 4 (dk_at dksX0_places_0 0 rfl rfl)
theorem dX0_places_2 : decode cX0_places 2 = .ok (.aload_n 0, 1) := dk_42 (dk_at dksX0_places_0 2 rfl rfl)
theorem dX0_places_3 : decode cX0_places 3 = .ok (.getfield 298, 3) := dk_180 1 42 (dk_at dksX0_places_0 3 rfl rfl)
theorem dX0_places_6 : decode cX0_places 6 = .ok (.if_icmp .lt 4, 3) := dk_161 0 4 (dk_at dksX0_places_0 6 rfl rfl)
theorem dX0_places_9 : decode cX0_places 9 = .ok (.return_, 1) := dk_177 (dk_at dksX0_places_0 9 rfl rfl)
theorem dX0_places_10 : decode cX0_places 10 = .ok (.iload_n 1, 1) := dk_27 (dk_at dksX0_places_0 10 rfl rfl)
theorem dX0_places_11 : decode cX0_places 11 = .ok (.ifCond .ne 39, 3) := dk_154 0 39 (dk_at dksX0_places_0 11 rfl rfl)
theorem dX0_places_14 : decode cX0_places 14 = .ok (.aload_n 0, 1) := dk_42 (dk_at dksX0_places_0 14 rfl rfl)
theorem dX0_places_15 : decode cX0_places 15 = .ok (.iload 4, 2) := dk_21 4 (dk_at dksX0_places_0 15 rfl rfl)
theorem dX0_places_17 : decode cX0_places 17 = .ok (.putfield 298, 3) := dk_181 1 42 (dk_at dksX0_places_0 17 rfl rfl)
theorem dX0_places_20 : decode cX0_places 20 = .ok (.iconst 0, 1) := dk_3 (dk_at dksX0_places_0 20 rfl rfl)
theorem dX0_places_21 : decode cX0_places 21 = .ok (.istore 5, 2) := dk_54 5 (dk_at dksX0_places_0 21 rfl rfl)
theorem dX0_places_23 : decode cX0_places 23 = .ok (.iload 5, 2) := dk_21 5 (dk_at dksX0_places_1 0 rfl rfl)
theorem dX0_places_25 : decode cX0_places 25 = .ok (.iload_n 2, 1) := dk_28 (dk_at dksX0_places_1 2 rfl rfl)
theorem dX0_places_26 : decode cX0_places 26 = .ok (.if_icmp .ge 23, 3) := dk_162 0 23 (dk_at dksX0_places_1 3 rfl rfl)
theorem dX0_places_29 : decode cX0_places 29 = .ok (.aload_n 0, 1) := dk_42 (dk_at dksX0_places_1 6 rfl rfl)
theorem dX0_places_30 : decode cX0_places 30 = .ok (.getfield 81, 3) := dk_180 0 81 (dk_at dksX0_places_1 7 rfl rfl)
theorem dX0_places_33 : decode cX0_places 33 = .ok (.iload 5, 2) := dk_21 5 (dk_at dksX0_places_1 10 rfl rfl)
theorem dX0_places_35 : decode cX0_places 35 = .ok (.aload_n 0, 1) := dk_42 (dk_at dksX0_places_1 12 rfl rfl)
theorem dX0_places_36 : decode cX0_places 36 = .ok (.getfield 78, 3) := dk_180 0 78 (dk_at dksX0_places_1 13 rfl rfl)
theorem dX0_places_39 : decode cX0_places 39 = .ok (.iload 5, 2) := dk_21 5 (dk_at dksX0_places_1 16 rfl rfl)
theorem dX0_places_41 : decode cX0_places 41 = .ok (.iaload, 1) := dk_46 (dk_at dksX0_places_1 18 rfl rfl)
theorem dX0_places_42 : decode cX0_places 42 = .ok (.iastore, 1) := dk_79 (dk_at dksX0_places_1 19 rfl rfl)
theorem dX0_places_43 : decode cX0_places 43 = .ok (.iinc 5 1, 3) := dk_132 5 1 (dk_at dksX0_places_1 20 rfl rfl)
theorem dX0_places_46 : decode cX0_places 46 = .ok (.goto (-23), 3) := dk_167 255 233 (dk_at dksX0_places_2 0 rfl rfl)
theorem dX0_places_49 : decode cX0_places 49 = .ok (.return_, 1) := dk_177 (dk_at dksX0_places_2 3 rfl rfl)
theorem dX0_places_50 : decode cX0_places 50 = .ok (.iconst 0, 1) := dk_3 (dk_at dksX0_places_2 4 rfl rfl)
theorem dX0_places_51 : decode cX0_places 51 = .ok (.istore 5, 2) := dk_54 5 (dk_at dksX0_places_2 5 rfl rfl)
theorem dX0_places_53 : decode cX0_places 53 = .ok (.iload 5, 2) := dk_21 5 (dk_at dksX0_places_2 7 rfl rfl)
theorem dX0_places_55 : decode cX0_places 55 = .ok (.aload_n 0, 1) := dk_42 (dk_at dksX0_places_2 9 rfl rfl)
theorem dX0_places_56 : decode cX0_places 56 = .ok (.invokevirtual 149, 3) := dk_182 0 149 (dk_at dksX0_places_2 10 rfl rfl)
theorem dX0_places_59 : decode cX0_places 59 = .ok (.if_icmp .ge 75, 3) := dk_162 0 75 (dk_at dksX0_places_2 13 rfl rfl)
theorem dX0_places_62 : decode cX0_places 62 = .ok (.iload_n 1, 1) := dk_27 (dk_at dksX0_places_2 16 rfl rfl)
theorem dX0_places_63 : decode cX0_places 63 = .ok (.iload 5, 2) := dk_21 5 (dk_at dksX0_places_2 17 rfl rfl)
theorem dX0_places_65 : decode cX0_places 65 = .ok (.invokestatic 163, 3) := dk_184 0 163 (dk_at dksX0_places_2 19 rfl rfl)
theorem dX0_places_68 : decode cX0_places 68 = .ok (.ifCond .ne 6, 3) := dk_154 0 6 (dk_at dksX0_places_3 0 rfl rfl)
theorem dX0_places_71 : decode cX0_places 71 = .ok (.goto 57, 3) := dk_167 0 57 (dk_at dksX0_places_3 3 rfl rfl)
theorem dX0_places_74 : decode cX0_places 74 = .ok (.aload_n 0, 1) := dk_42 (dk_at dksX0_places_3 6 rfl rfl)
theorem dX0_places_75 : decode cX0_places 75 = .ok (.getfield 78, 3) := dk_180 0 78 (dk_at dksX0_places_3 7 rfl rfl)
theorem dX0_places_78 : decode cX0_places 78 = .ok (.iload_n 2, 1) := dk_28 (dk_at dksX0_places_3 10 rfl rfl)
theorem dX0_places_79 : decode cX0_places 79 = .ok (.iload 5, 2) := dk_21 5 (dk_at dksX0_places_3 11 rfl rfl)
theorem dX0_places_81 : decode cX0_places 81 = .ok (.iastore, 1) := dk_79 (dk_at dksX0_places_3 13 rfl rfl)
theorem dX0_places_82 : decode cX0_places 82 = .ok (.iload_n 3, 1) := dk_29 (dk_at dksX0_places_3 14 rfl rfl)
theorem dX0_places_83 : decode cX0_places 83 = .ok (.aload_n 0, 1) := dk_42 (dk_at dksX0_places_3 15 rfl rfl)
theorem dX0_places_84 : decode cX0_places 84 = .ok (.getfield 71, 3) := dk_180 0 71 (dk_at dksX0_places_3 16 rfl rfl)
theorem dX0_places_87 : decode cX0_places 87 = .ok (.iload 5, 2) := dk_21 5 (dk_at dksX0_places_3 19 rfl rfl)
theorem dX0_places_89 : decode cX0_places 89 = .ok (.iconst 0, 1) := dk_3 (dk_at dksX0_places_3 21 rfl rfl)
theorem dX0_places_90 : decode cX0_places 90 = .ok (.invokevirtual 247, 3) := dk_182 0 247 (dk_at dksX0_places_4 0 rfl rfl)
theorem dX0_places_93 : decode cX0_places 93 = .ok (.iadd, 1) := dk_96 (dk_at dksX0_places_4 3 rfl rfl)
theorem dX0_places_94 : decode cX0_places 94 = .ok (.istore 6, 2) := dk_54 6 (dk_at dksX0_places_4 4 rfl rfl)
theorem dX0_places_96 : decode cX0_places 96 = .ok (.aload_n 0, 1) := dk_42 (dk_at dksX0_places_4 6 rfl rfl)
theorem dX0_places_97 : decode cX0_places 97 = .ok (.iload_n 1, 1) := dk_27 (dk_at dksX0_places_4 7 rfl rfl)
theorem dX0_places_98 : decode cX0_places 98 = .ok (.iconst 1, 1) := dk_4 (dk_at dksX0_places_4 8 rfl rfl)
theorem dX0_places_99 : decode cX0_places 99 = .ok (.iload 5, 2) := dk_21 5 (dk_at dksX0_places_4 9 rfl rfl)
theorem dX0_places_101 : decode cX0_places 101 = .ok (.ishl, 1) := dk_120 (dk_at dksX0_places_4 11 rfl rfl)
theorem dX0_places_102 : decode cX0_places 102 = .ok (.iconst (-1), 1) := dk_2 (dk_at dksX0_places_4 12 rfl rfl)
theorem dX0_places_103 : decode cX0_places 103 = .ok (.ixor, 1) := dk_130 (dk_at dksX0_places_4 13 rfl rfl)
theorem dX0_places_104 : decode cX0_places 104 = .ok (.iand, 1) := dk_126 (dk_at dksX0_places_4 14 rfl rfl)
theorem dX0_places_105 : decode cX0_places 105 = .ok (.iload_n 2, 1) := dk_28 (dk_at dksX0_places_4 15 rfl rfl)
theorem dX0_places_106 : decode cX0_places 106 = .ok (.iconst 1, 1) := dk_4 (dk_at dksX0_places_4 16 rfl rfl)
theorem dX0_places_107 : decode cX0_places 107 = .ok (.iadd, 1) := dk_96 (dk_at dksX0_places_4 17 rfl rfl)
theorem dX0_places_108 : decode cX0_places 108 = .ok (.iload 6, 2) := dk_21 6 (dk_at dksX0_places_4 18 rfl rfl)
theorem dX0_places_110 : decode cX0_places 110 = .ok (.iload 4, 2) := dk_21 4 (dk_at dksX0_places_4 20 rfl rfl)
theorem dX0_places_112 : decode cX0_places 112 = .ok (.aload_n 0, 1) := dk_42 (dk_at dksX0_places_4 22 rfl rfl)
theorem dX0_places_113 : decode cX0_places 113 = .ok (.iload 5, 2) := dk_21 5 (dk_at dksX0_places_5 0 rfl rfl)
theorem dX0_places_115 : decode cX0_places 115 = .ok (.invokevirtual 167, 3) := dk_182 0 167 (dk_at dksX0_places_5 2 rfl rfl)
theorem dX0_places_118 : decode cX0_places 118 = .ok (.getfield 171, 3) := dk_180 0 171 (dk_at dksX0_places_5 5 rfl rfl)
theorem dX0_places_121 : decode cX0_places 121 = .ok (.iload 6, 2) := dk_21 6 (dk_at dksX0_places_5 8 rfl rfl)
theorem dX0_places_123 : decode cX0_places 123 = .ok (.imul, 1) := dk_104 (dk_at dksX0_places_5 10 rfl rfl)
theorem dX0_places_124 : decode cX0_places 124 = .ok (.iadd, 1) := dk_96 (dk_at dksX0_places_5 11 rfl rfl)
theorem dX0_places_125 : decode cX0_places 125 = .ok (.invokevirtual 301, 3) := dk_182 1 45 (dk_at dksX0_places_5 12 rfl rfl)
theorem dX0_places_128 : decode cX0_places 128 = .ok (.iinc 5 1, 3) := dk_132 5 1 (dk_at dksX0_places_5 15 rfl rfl)
theorem dX0_places_131 : decode cX0_places 131 = .ok (.goto (-78), 3) := dk_167 255 178 (dk_at dksX0_places_5 18 rfl rfl)
theorem dX0_places_134 : decode cX0_places 134 = .ok (.return_, 1) := dk_177 (dk_at dksX0_places_5 21 rfl rfl)
abbrev cX0_parts : ByteArray := prog_1_method_42_code
def yX0_parts : MethodName := ⟨RX0, "parts", "()I"⟩
def dkwX0_parts_1 : List UInt8 := [184, 0, 183, 162, 0, 13, 42, 28, 182, 1, 50, 153, 0, 5, 28, 60, 132, 2, 1, 167, 255, 217, 27, 172]
abbrev dktX0_parts_1 : List UInt8 := dkwX0_parts_1 ++ []
def dkwX0_parts_0 : List UInt8 := [2, 60, 3, 61, 28, 4, 42, 182, 0, 153, 120, 162, 0, 35, 27, 2, 159, 0, 14, 28, 184, 0, 183, 27]
abbrev dktX0_parts_0 : List UInt8 := dkwX0_parts_0 ++ dktX0_parts_1
theorem dksX0_parts_0 : cX0_parts.data.toList.drop 0 = dktX0_parts_0 := by decide +kernel
theorem dksX0_parts_1 : cX0_parts.data.toList.drop 24 = dktX0_parts_1 := dk_seg dksX0_parts_0 24 rfl rfl
theorem dX0_parts_0 : decode cX0_parts 0 = .ok (.iconst (-1), 1) := dk_2 (dk_at dksX0_parts_0 0 rfl rfl)
theorem dX0_parts_1 : decode cX0_parts 1 = .ok (.istore_n 1, 1) := dk_60 (dk_at dksX0_parts_0 1 rfl rfl)
theorem dX0_parts_2 : decode cX0_parts 2 = .ok (.iconst 0, 1) := dk_3 (dk_at dksX0_parts_0 2 rfl rfl)
theorem dX0_parts_3 : decode cX0_parts 3 = .ok (.istore_n 2, 1) := dk_61 (dk_at dksX0_parts_0 3 rfl rfl)
theorem dX0_parts_4 : decode cX0_parts 4 = .ok (.iload_n 2, 1) := dk_28 (dk_at dksX0_parts_0 4 rfl rfl)
theorem dX0_parts_5 : decode cX0_parts 5 = .ok (.iconst 1, 1) := dk_4 (dk_at dksX0_parts_0 5 rfl rfl)
theorem dX0_parts_6 : decode cX0_parts 6 = .ok (.aload_n 0, 1) := dk_42 (dk_at dksX0_parts_0 6 rfl rfl)
theorem dX0_parts_7 : decode cX0_parts 7 = .ok (.invokevirtual 153, 3) := dk_182 0 153 (dk_at dksX0_parts_0 7 rfl rfl)
theorem dX0_parts_10 : decode cX0_parts 10 = .ok (.ishl, 1) := dk_120 (dk_at dksX0_parts_0 10 rfl rfl)
theorem dX0_parts_11 : decode cX0_parts 11 = .ok (.if_icmp .ge 35, 3) := dk_162 0 35 (dk_at dksX0_parts_0 11 rfl rfl)
theorem dX0_parts_14 : decode cX0_parts 14 = .ok (.iload_n 1, 1) := dk_27 (dk_at dksX0_parts_0 14 rfl rfl)
theorem dX0_parts_15 : decode cX0_parts 15 = .ok (.iconst (-1), 1) := dk_2 (dk_at dksX0_parts_0 15 rfl rfl)
theorem dX0_parts_16 : decode cX0_parts 16 = .ok (.if_icmp .eq 14, 3) := dk_159 0 14 (dk_at dksX0_parts_0 16 rfl rfl)
theorem dX0_parts_19 : decode cX0_parts 19 = .ok (.iload_n 2, 1) := dk_28 (dk_at dksX0_parts_0 19 rfl rfl)
theorem dX0_parts_20 : decode cX0_parts 20 = .ok (.invokestatic 183, 3) := dk_184 0 183 (dk_at dksX0_parts_0 20 rfl rfl)
theorem dX0_parts_23 : decode cX0_parts 23 = .ok (.iload_n 1, 1) := dk_27 (dk_at dksX0_parts_0 23 rfl rfl)
theorem dX0_parts_24 : decode cX0_parts 24 = .ok (.invokestatic 183, 3) := dk_184 0 183 (dk_at dksX0_parts_1 0 rfl rfl)
theorem dX0_parts_27 : decode cX0_parts 27 = .ok (.if_icmp .ge 13, 3) := dk_162 0 13 (dk_at dksX0_parts_1 3 rfl rfl)
theorem dX0_parts_30 : decode cX0_parts 30 = .ok (.aload_n 0, 1) := dk_42 (dk_at dksX0_parts_1 6 rfl rfl)
theorem dX0_parts_31 : decode cX0_parts 31 = .ok (.iload_n 2, 1) := dk_28 (dk_at dksX0_parts_1 7 rfl rfl)
theorem dX0_parts_32 : decode cX0_parts 32 = .ok (.invokevirtual 306, 3) := dk_182 1 50 (dk_at dksX0_parts_1 8 rfl rfl)
theorem dX0_parts_35 : decode cX0_parts 35 = .ok (.ifCond .eq 5, 3) := dk_153 0 5 (dk_at dksX0_parts_1 11 rfl rfl)
theorem dX0_parts_38 : decode cX0_parts 38 = .ok (.iload_n 2, 1) := dk_28 (dk_at dksX0_parts_1 14 rfl rfl)
theorem dX0_parts_39 : decode cX0_parts 39 = .ok (.istore_n 1, 1) := dk_60 (dk_at dksX0_parts_1 15 rfl rfl)
theorem dX0_parts_40 : decode cX0_parts 40 = .ok (.iinc 2 1, 3) := dk_132 2 1 (dk_at dksX0_parts_1 16 rfl rfl)
theorem dX0_parts_43 : decode cX0_parts 43 = .ok (.goto (-39), 3) := dk_167 255 217 (dk_at dksX0_parts_1 19 rfl rfl)
theorem dX0_parts_46 : decode cX0_parts 46 = .ok (.iload_n 1, 1) := dk_27 (dk_at dksX0_parts_1 22 rfl rfl)
theorem dX0_parts_47 : decode cX0_parts 47 = .ok (.ireturn, 1) := dk_172 (dk_at dksX0_parts_1 23 rfl rfl)
abbrev cX0_isParted : ByteArray := prog_1_method_41_code
def yX0_isParted : MethodName := ⟨RX0, "isParted", "(I)Z"⟩
def dkwX0_isParted_5 : List UInt8 := [167, 255, 206, 21, 4, 154, 0, 5, 3, 172, 132, 3, 1, 167, 255, 139, 132, 2, 1, 167, 255, 123, 4, 172]
abbrev dktX0_isParted_5 : List UInt8 := dkwX0_isParted_5 ++ []
def dkwX0_isParted_4 : List UInt8 := [182, 1, 11, 42, 21, 5, 29, 182, 1, 11, 159, 0, 7, 4, 167, 0, 4, 3, 54, 4, 132, 5, 1]
abbrev dktX0_isParted_4 : List UInt8 := dkwX0_isParted_4 ++ dktX0_isParted_5
def dkwX0_isParted_3 : List UInt8 := [182, 0, 153, 162, 0, 47, 21, 4, 154, 0, 29, 27, 21, 5, 184, 0, 163, 153, 0, 24, 42, 21, 5, 28]
abbrev dktX0_isParted_3 : List UInt8 := dkwX0_isParted_3 ++ dktX0_isParted_4
def dkwX0_isParted_2 : List UInt8 := [180, 0, 71, 180, 0, 227, 29, 51, 153, 0, 6, 167, 0, 69, 3, 54, 4, 3, 54, 5, 21, 5, 42]
abbrev dktX0_isParted_2 : List UInt8 := dkwX0_isParted_2 ++ dktX0_isParted_3
def dkwX0_isParted_1 : List UInt8 := [180, 0, 227, 28, 51, 153, 0, 97, 42, 180, 0, 71, 180, 0, 216, 29, 46, 5, 160, 0, 84, 42]
abbrev dktX0_isParted_1 : List UInt8 := dkwX0_isParted_1 ++ dktX0_isParted_2
def dkwX0_isParted_0 : List UInt8 := [3, 61, 28, 42, 182, 0, 149, 162, 0, 131, 3, 62, 29, 42, 182, 0, 149, 162, 0, 115, 42, 180, 0, 71]
abbrev dktX0_isParted_0 : List UInt8 := dkwX0_isParted_0 ++ dktX0_isParted_1
theorem dksX0_isParted_0 : cX0_isParted.data.toList.drop 0 = dktX0_isParted_0 := by decide +kernel
theorem dksX0_isParted_1 : cX0_isParted.data.toList.drop 24 = dktX0_isParted_1 := dk_seg dksX0_isParted_0 24 rfl rfl
theorem dksX0_isParted_2 : cX0_isParted.data.toList.drop 46 = dktX0_isParted_2 := dk_seg dksX0_isParted_1 22 rfl rfl
theorem dksX0_isParted_3 : cX0_isParted.data.toList.drop 69 = dktX0_isParted_3 := dk_seg dksX0_isParted_2 23 rfl rfl
theorem dksX0_isParted_4 : cX0_isParted.data.toList.drop 93 = dktX0_isParted_4 := dk_seg dksX0_isParted_3 24 rfl rfl
theorem dksX0_isParted_5 : cX0_isParted.data.toList.drop 116 = dktX0_isParted_5 := dk_seg dksX0_isParted_4 23 rfl rfl
theorem dX0_isParted_0 : decode cX0_isParted 0 = .ok (.iconst 0, 1) := dk_3 (dk_at dksX0_isParted_0 0 rfl rfl)
theorem dX0_isParted_1 : decode cX0_isParted 1 = .ok (.istore_n 2, 1) := dk_61 (dk_at dksX0_isParted_0 1 rfl rfl)
theorem dX0_isParted_2 : decode cX0_isParted 2 = .ok (.iload_n 2, 1) := dk_28 (dk_at dksX0_isParted_0 2 rfl rfl)
theorem dX0_isParted_3 : decode cX0_isParted 3 = .ok (.aload_n 0, 1) := dk_42 (dk_at dksX0_isParted_0 3 rfl rfl)
theorem dX0_isParted_4 : decode cX0_isParted 4 = .ok (.invokevirtual 149, 3) := dk_182 0 149 (dk_at dksX0_isParted_0 4 rfl rfl)
theorem dX0_isParted_7 : decode cX0_isParted 7 = .ok (.if_icmp .ge 131, 3) := dk_162 0 131 (dk_at dksX0_isParted_0 7 rfl rfl)
theorem dX0_isParted_10 : decode cX0_isParted 10 = .ok (.iconst 0, 1) := dk_3 (dk_at dksX0_isParted_0 10 rfl rfl)
theorem dX0_isParted_11 : decode cX0_isParted 11 = .ok (.istore_n 3, 1) := dk_62 (dk_at dksX0_isParted_0 11 rfl rfl)
theorem dX0_isParted_12 : decode cX0_isParted 12 = .ok (.iload_n 3, 1) := dk_29 (dk_at dksX0_isParted_0 12 rfl rfl)
theorem dX0_isParted_13 : decode cX0_isParted 13 = .ok (.aload_n 0, 1) := dk_42 (dk_at dksX0_isParted_0 13 rfl rfl)
theorem dX0_isParted_14 : decode cX0_isParted 14 = .ok (.invokevirtual 149, 3) := dk_182 0 149 (dk_at dksX0_isParted_0 14 rfl rfl)
theorem dX0_isParted_17 : decode cX0_isParted 17 = .ok (.if_icmp .ge 115, 3) := dk_162 0 115 (dk_at dksX0_isParted_0 17 rfl rfl)
theorem dX0_isParted_20 : decode cX0_isParted 20 = .ok (.aload_n 0, 1) := dk_42 (dk_at dksX0_isParted_0 20 rfl rfl)
theorem dX0_isParted_21 : decode cX0_isParted 21 = .ok (.getfield 71, 3) := dk_180 0 71 (dk_at dksX0_isParted_0 21 rfl rfl)
theorem dX0_isParted_24 : decode cX0_isParted 24 = .ok (.getfield 227, 3) := dk_180 0 227 (dk_at dksX0_isParted_1 0 rfl rfl)
theorem dX0_isParted_27 : decode cX0_isParted 27 = .ok (.iload_n 2, 1) := dk_28 (dk_at dksX0_isParted_1 3 rfl rfl)
theorem dX0_isParted_28 : decode cX0_isParted 28 = .ok (.baload, 1) := dk_51 (dk_at dksX0_isParted_1 4 rfl rfl)
theorem dX0_isParted_29 : decode cX0_isParted 29 = .ok (.ifCond .eq 97, 3) := dk_153 0 97 (dk_at dksX0_isParted_1 5 rfl rfl)
theorem dX0_isParted_32 : decode cX0_isParted 32 = .ok (.aload_n 0, 1) := dk_42 (dk_at dksX0_isParted_1 8 rfl rfl)
theorem dX0_isParted_33 : decode cX0_isParted 33 = .ok (.getfield 71, 3) := dk_180 0 71 (dk_at dksX0_isParted_1 9 rfl rfl)
theorem dX0_isParted_36 : decode cX0_isParted 36 = .ok (.getfield 216, 3) := dk_180 0 216 (dk_at dksX0_isParted_1 12 rfl rfl)
theorem dX0_isParted_39 : decode cX0_isParted 39 = .ok (.iload_n 3, 1) := dk_29 (dk_at dksX0_isParted_1 15 rfl rfl)
theorem dX0_isParted_40 : decode cX0_isParted 40 = .ok (.iaload, 1) := dk_46 (dk_at dksX0_isParted_1 16 rfl rfl)
theorem dX0_isParted_41 : decode cX0_isParted 41 = .ok (.iconst 2, 1) := dk_5 (dk_at dksX0_isParted_1 17 rfl rfl)
theorem dX0_isParted_42 : decode cX0_isParted 42 = .ok (.if_icmp .ne 84, 3) := dk_160 0 84 (dk_at dksX0_isParted_1 18 rfl rfl)
theorem dX0_isParted_45 : decode cX0_isParted 45 = .ok (.aload_n 0, 1) := dk_42 (dk_at dksX0_isParted_1 21 rfl rfl)
theorem dX0_isParted_46 : decode cX0_isParted 46 = .ok (.getfield 71, 3) := dk_180 0 71 (dk_at dksX0_isParted_2 0 rfl rfl)
theorem dX0_isParted_49 : decode cX0_isParted 49 = .ok (.getfield 227, 3) := dk_180 0 227 (dk_at dksX0_isParted_2 3 rfl rfl)
theorem dX0_isParted_52 : decode cX0_isParted 52 = .ok (.iload_n 3, 1) := dk_29 (dk_at dksX0_isParted_2 6 rfl rfl)
theorem dX0_isParted_53 : decode cX0_isParted 53 = .ok (.baload, 1) := dk_51 (dk_at dksX0_isParted_2 7 rfl rfl)
theorem dX0_isParted_54 : decode cX0_isParted 54 = .ok (.ifCond .eq 6, 3) := dk_153 0 6 (dk_at dksX0_isParted_2 8 rfl rfl)
theorem dX0_isParted_57 : decode cX0_isParted 57 = .ok (.goto 69, 3) := dk_167 0 69 (dk_at dksX0_isParted_2 11 rfl rfl)
theorem dX0_isParted_60 : decode cX0_isParted 60 = .ok (.iconst 0, 1) := dk_3 (dk_at dksX0_isParted_2 14 rfl rfl)
theorem dX0_isParted_61 : decode cX0_isParted 61 = .ok (.istore 4, 2) := dk_54 4 (dk_at dksX0_isParted_2 15 rfl rfl)
theorem dX0_isParted_63 : decode cX0_isParted 63 = .ok (.iconst 0, 1) := dk_3 (dk_at dksX0_isParted_2 17 rfl rfl)
theorem dX0_isParted_64 : decode cX0_isParted 64 = .ok (.istore 5, 2) := dk_54 5 (dk_at dksX0_isParted_2 18 rfl rfl)
theorem dX0_isParted_66 : decode cX0_isParted 66 = .ok (.iload 5, 2) := dk_21 5 (dk_at dksX0_isParted_2 20 rfl rfl)
theorem dX0_isParted_68 : decode cX0_isParted 68 = .ok (.aload_n 0, 1) := dk_42 (dk_at dksX0_isParted_2 22 rfl rfl)
theorem dX0_isParted_69 : decode cX0_isParted 69 = .ok (.invokevirtual 153, 3) := dk_182 0 153 (dk_at dksX0_isParted_3 0 rfl rfl)
theorem dX0_isParted_72 : decode cX0_isParted 72 = .ok (.if_icmp .ge 47, 3) := dk_162 0 47 (dk_at dksX0_isParted_3 3 rfl rfl)
theorem dX0_isParted_75 : decode cX0_isParted 75 = .ok (.iload 4, 2) := dk_21 4 (dk_at dksX0_isParted_3 6 rfl rfl)
theorem dX0_isParted_77 : decode cX0_isParted 77 = .ok (.ifCond .ne 29, 3) := dk_154 0 29 (dk_at dksX0_isParted_3 8 rfl rfl)
theorem dX0_isParted_80 : decode cX0_isParted 80 = .ok (.iload_n 1, 1) := dk_27 (dk_at dksX0_isParted_3 11 rfl rfl)
theorem dX0_isParted_81 : decode cX0_isParted 81 = .ok (.iload 5, 2) := dk_21 5 (dk_at dksX0_isParted_3 12 rfl rfl)
theorem dX0_isParted_83 : decode cX0_isParted 83 = .ok (.invokestatic 163, 3) := dk_184 0 163 (dk_at dksX0_isParted_3 14 rfl rfl)
theorem dX0_isParted_86 : decode cX0_isParted 86 = .ok (.ifCond .eq 24, 3) := dk_153 0 24 (dk_at dksX0_isParted_3 17 rfl rfl)
theorem dX0_isParted_89 : decode cX0_isParted 89 = .ok (.aload_n 0, 1) := dk_42 (dk_at dksX0_isParted_3 20 rfl rfl)
theorem dX0_isParted_90 : decode cX0_isParted 90 = .ok (.iload 5, 2) := dk_21 5 (dk_at dksX0_isParted_3 21 rfl rfl)
theorem dX0_isParted_92 : decode cX0_isParted 92 = .ok (.iload_n 2, 1) := dk_28 (dk_at dksX0_isParted_3 23 rfl rfl)
theorem dX0_isParted_93 : decode cX0_isParted 93 = .ok (.invokevirtual 267, 3) := dk_182 1 11 (dk_at dksX0_isParted_4 0 rfl rfl)
theorem dX0_isParted_96 : decode cX0_isParted 96 = .ok (.aload_n 0, 1) := dk_42 (dk_at dksX0_isParted_4 3 rfl rfl)
theorem dX0_isParted_97 : decode cX0_isParted 97 = .ok (.iload 5, 2) := dk_21 5 (dk_at dksX0_isParted_4 4 rfl rfl)
theorem dX0_isParted_99 : decode cX0_isParted 99 = .ok (.iload_n 3, 1) := dk_29 (dk_at dksX0_isParted_4 6 rfl rfl)
theorem dX0_isParted_100 : decode cX0_isParted 100 = .ok (.invokevirtual 267, 3) := dk_182 1 11 (dk_at dksX0_isParted_4 7 rfl rfl)
theorem dX0_isParted_103 : decode cX0_isParted 103 = .ok (.if_icmp .eq 7, 3) := dk_159 0 7 (dk_at dksX0_isParted_4 10 rfl rfl)
theorem dX0_isParted_106 : decode cX0_isParted 106 = .ok (.iconst 1, 1) := dk_4 (dk_at dksX0_isParted_4 13 rfl rfl)
theorem dX0_isParted_107 : decode cX0_isParted 107 = .ok (.goto 4, 3) := dk_167 0 4 (dk_at dksX0_isParted_4 14 rfl rfl)
theorem dX0_isParted_110 : decode cX0_isParted 110 = .ok (.iconst 0, 1) := dk_3 (dk_at dksX0_isParted_4 17 rfl rfl)
theorem dX0_isParted_111 : decode cX0_isParted 111 = .ok (.istore 4, 2) := dk_54 4 (dk_at dksX0_isParted_4 18 rfl rfl)
theorem dX0_isParted_113 : decode cX0_isParted 113 = .ok (.iinc 5 1, 3) := dk_132 5 1 (dk_at dksX0_isParted_4 20 rfl rfl)
theorem dX0_isParted_116 : decode cX0_isParted 116 = .ok (.goto (-50), 3) := dk_167 255 206 (dk_at dksX0_isParted_5 0 rfl rfl)
theorem dX0_isParted_119 : decode cX0_isParted 119 = .ok (.iload 4, 2) := dk_21 4 (dk_at dksX0_isParted_5 3 rfl rfl)
theorem dX0_isParted_121 : decode cX0_isParted 121 = .ok (.ifCond .ne 5, 3) := dk_154 0 5 (dk_at dksX0_isParted_5 5 rfl rfl)
theorem dX0_isParted_124 : decode cX0_isParted 124 = .ok (.iconst 0, 1) := dk_3 (dk_at dksX0_isParted_5 8 rfl rfl)
theorem dX0_isParted_125 : decode cX0_isParted 125 = .ok (.ireturn, 1) := dk_172 (dk_at dksX0_isParted_5 9 rfl rfl)
theorem dX0_isParted_126 : decode cX0_isParted 126 = .ok (.iinc 3 1, 3) := dk_132 3 1 (dk_at dksX0_isParted_5 10 rfl rfl)
theorem dX0_isParted_129 : decode cX0_isParted 129 = .ok (.goto (-117), 3) := dk_167 255 139 (dk_at dksX0_isParted_5 13 rfl rfl)
theorem dX0_isParted_132 : decode cX0_isParted 132 = .ok (.iinc 2 1, 3) := dk_132 2 1 (dk_at dksX0_isParted_5 16 rfl rfl)
theorem dX0_isParted_135 : decode cX0_isParted 135 = .ok (.goto (-133), 3) := dk_167 255 123 (dk_at dksX0_isParted_5 19 rfl rfl)
theorem dX0_isParted_138 : decode cX0_isParted 138 = .ok (.iconst 1, 1) := dk_4 (dk_at dksX0_isParted_5 22 rfl rfl)
theorem dX0_isParted_139 : decode cX0_isParted 139 = .ok (.ireturn, 1) := dk_172 (dk_at dksX0_isParted_5 23 rfl rfl)
abbrev cX0_lawed : ByteArray := prog_1_method_43_code
def yX0_lawed : MethodName := ⟨RX0, "lawed", "(II)I"⟩
def dkwX0_lawed_5 : List UInt8 := [28, 154, 0, 12, 42, 21, 4, 182, 0, 194, 167, 0, 7, 21, 4, 29, 130, 172]
abbrev dktX0_lawed_5 : List UInt8 := dkwX0_lawed_5 ++ []
def dkwX0_lawed_4 : List UInt8 := [21, 4, 21, 6, 153, 0, 10, 4, 21, 5, 120, 167, 0, 4, 3, 128, 54, 4, 132, 5, 1, 167, 255, 173]
abbrev dktX0_lawed_4 : List UInt8 := dkwX0_lawed_4 ++ dktX0_lawed_5
def dkwX0_lawed_3 : List UInt8 := [159, 0, 17, 42, 180, 0, 71, 180, 0, 221, 21, 5, 46, 4, 164, 0, 7, 4, 167, 0, 4, 3, 54, 6]
abbrev dktX0_lawed_3 : List UInt8 := dkwX0_lawed_3 ++ dktX0_lawed_4
def dkwX0_lawed_2 : List UInt8 := [21, 5, 184, 0, 163, 167, 0, 41, 42, 180, 0, 71, 180, 0, 216, 21, 5, 46, 5, 160, 0, 26, 27, 4]
abbrev dktX0_lawed_2 : List UInt8 := dkwX0_lawed_2 ++ dktX0_lawed_3
def dkwX0_lawed_1 : List UInt8 := [182, 0, 188, 62, 3, 54, 4, 3, 54, 5, 21, 5, 42, 182, 0, 149, 162, 0, 80, 27, 154, 0, 12, 29]
abbrev dktX0_lawed_1 : List UInt8 := dkwX0_lawed_1 ++ dktX0_lawed_2
def dkwX0_lawed_0 : List UInt8 := [27, 3, 5, 184, 0, 200, 153, 0, 12, 28, 3, 4, 184, 0, 200, 154, 0, 5, 2, 172, 42, 180, 0, 71]
abbrev dktX0_lawed_0 : List UInt8 := dkwX0_lawed_0 ++ dktX0_lawed_1
theorem dksX0_lawed_0 : cX0_lawed.data.toList.drop 0 = dktX0_lawed_0 := by decide +kernel
theorem dksX0_lawed_1 : cX0_lawed.data.toList.drop 24 = dktX0_lawed_1 := dk_seg dksX0_lawed_0 24 rfl rfl
theorem dksX0_lawed_2 : cX0_lawed.data.toList.drop 48 = dktX0_lawed_2 := dk_seg dksX0_lawed_1 24 rfl rfl
theorem dksX0_lawed_3 : cX0_lawed.data.toList.drop 72 = dktX0_lawed_3 := dk_seg dksX0_lawed_2 24 rfl rfl
theorem dksX0_lawed_4 : cX0_lawed.data.toList.drop 96 = dktX0_lawed_4 := dk_seg dksX0_lawed_3 24 rfl rfl
theorem dksX0_lawed_5 : cX0_lawed.data.toList.drop 120 = dktX0_lawed_5 := dk_seg dksX0_lawed_4 24 rfl rfl
theorem dX0_lawed_0 : decode cX0_lawed 0 = .ok (.iload_n 1, 1) := dk_27 (dk_at dksX0_lawed_0 0 rfl rfl)
theorem dX0_lawed_1 : decode cX0_lawed 1 = .ok (.iconst 0, 1) := dk_3 (dk_at dksX0_lawed_0 1 rfl rfl)
theorem dX0_lawed_2 : decode cX0_lawed 2 = .ok (.iconst 2, 1) := dk_5 (dk_at dksX0_lawed_0 2 rfl rfl)
theorem dX0_lawed_3 : decode cX0_lawed 3 = .ok (.invokestatic 200, 3) := dk_184 0 200 (dk_at dksX0_lawed_0 3 rfl rfl)
theorem dX0_lawed_6 : decode cX0_lawed 6 = .ok (.ifCond .eq 12, 3) := dk_153 0 12 (dk_at dksX0_lawed_0 6 rfl rfl)
theorem dX0_lawed_9 : decode cX0_lawed 9 = .ok (.iload_n 2, 1) := dk_28 (dk_at dksX0_lawed_0 9 rfl rfl)
theorem dX0_lawed_10 : decode cX0_lawed 10 = .ok (.iconst 0, 1) := dk_3 (dk_at dksX0_lawed_0 10 rfl rfl)
theorem dX0_lawed_11 : decode cX0_lawed 11 = .ok (.iconst 1, 1) := dk_4 (dk_at dksX0_lawed_0 11 rfl rfl)
theorem dX0_lawed_12 : decode cX0_lawed 12 = .ok (.invokestatic 200, 3) := dk_184 0 200 (dk_at dksX0_lawed_0 12 rfl rfl)
theorem dX0_lawed_15 : decode cX0_lawed 15 = .ok (.ifCond .ne 5, 3) := dk_154 0 5 (dk_at dksX0_lawed_0 15 rfl rfl)
theorem dX0_lawed_18 : decode cX0_lawed 18 = .ok (.iconst (-1), 1) := dk_2 (dk_at dksX0_lawed_0 18 rfl rfl)
theorem dX0_lawed_19 : decode cX0_lawed 19 = .ok (.ireturn, 1) := dk_172 (dk_at dksX0_lawed_0 19 rfl rfl)
theorem dX0_lawed_20 : decode cX0_lawed 20 = .ok (.aload_n 0, 1) := dk_42 (dk_at dksX0_lawed_0 20 rfl rfl)
theorem dX0_lawed_21 : decode cX0_lawed 21 = .ok (.getfield 71, 3) := dk_180 0 71 (dk_at dksX0_lawed_0 21 rfl rfl)
theorem dX0_lawed_24 : decode cX0_lawed 24 = .ok (.invokevirtual 188, 3) := dk_182 0 188 (dk_at dksX0_lawed_1 0 rfl rfl)
theorem dX0_lawed_27 : decode cX0_lawed 27 = .ok (.istore_n 3, 1) := dk_62 (dk_at dksX0_lawed_1 3 rfl rfl)
theorem dX0_lawed_28 : decode cX0_lawed 28 = .ok (.iconst 0, 1) := dk_3 (dk_at dksX0_lawed_1 4 rfl rfl)
theorem dX0_lawed_29 : decode cX0_lawed 29 = .ok (.istore 4, 2) := dk_54 4 (dk_at dksX0_lawed_1 5 rfl rfl)
theorem dX0_lawed_31 : decode cX0_lawed 31 = .ok (.iconst 0, 1) := dk_3 (dk_at dksX0_lawed_1 7 rfl rfl)
theorem dX0_lawed_32 : decode cX0_lawed 32 = .ok (.istore 5, 2) := dk_54 5 (dk_at dksX0_lawed_1 8 rfl rfl)
theorem dX0_lawed_34 : decode cX0_lawed 34 = .ok (.iload 5, 2) := dk_21 5 (dk_at dksX0_lawed_1 10 rfl rfl)
theorem dX0_lawed_36 : decode cX0_lawed 36 = .ok (.aload_n 0, 1) := dk_42 (dk_at dksX0_lawed_1 12 rfl rfl)
theorem dX0_lawed_37 : decode cX0_lawed 37 = .ok (.invokevirtual 149, 3) := dk_182 0 149 (dk_at dksX0_lawed_1 13 rfl rfl)
theorem dX0_lawed_40 : decode cX0_lawed 40 = .ok (.if_icmp .ge 80, 3) := dk_162 0 80 (dk_at dksX0_lawed_1 16 rfl rfl)
theorem dX0_lawed_43 : decode cX0_lawed 43 = .ok (.iload_n 1, 1) := dk_27 (dk_at dksX0_lawed_1 19 rfl rfl)
theorem dX0_lawed_44 : decode cX0_lawed 44 = .ok (.ifCond .ne 12, 3) := dk_154 0 12 (dk_at dksX0_lawed_1 20 rfl rfl)
theorem dX0_lawed_47 : decode cX0_lawed 47 = .ok (.iload_n 3, 1) := dk_29 (dk_at dksX0_lawed_1 23 rfl rfl)
theorem dX0_lawed_48 : decode cX0_lawed 48 = .ok (.iload 5, 2) := dk_21 5 (dk_at dksX0_lawed_2 0 rfl rfl)
theorem dX0_lawed_50 : decode cX0_lawed 50 = .ok (.invokestatic 163, 3) := dk_184 0 163 (dk_at dksX0_lawed_2 2 rfl rfl)
theorem dX0_lawed_53 : decode cX0_lawed 53 = .ok (.goto 41, 3) := dk_167 0 41 (dk_at dksX0_lawed_2 5 rfl rfl)
theorem dX0_lawed_56 : decode cX0_lawed 56 = .ok (.aload_n 0, 1) := dk_42 (dk_at dksX0_lawed_2 8 rfl rfl)
theorem dX0_lawed_57 : decode cX0_lawed 57 = .ok (.getfield 71, 3) := dk_180 0 71 (dk_at dksX0_lawed_2 9 rfl rfl)
theorem dX0_lawed_60 : decode cX0_lawed 60 = .ok (.getfield 216, 3) := dk_180 0 216 (dk_at dksX0_lawed_2 12 rfl rfl)
theorem dX0_lawed_63 : decode cX0_lawed 63 = .ok (.iload 5, 2) := dk_21 5 (dk_at dksX0_lawed_2 15 rfl rfl)
theorem dX0_lawed_65 : decode cX0_lawed 65 = .ok (.iaload, 1) := dk_46 (dk_at dksX0_lawed_2 17 rfl rfl)
theorem dX0_lawed_66 : decode cX0_lawed 66 = .ok (.iconst 2, 1) := dk_5 (dk_at dksX0_lawed_2 18 rfl rfl)
theorem dX0_lawed_67 : decode cX0_lawed 67 = .ok (.if_icmp .ne 26, 3) := dk_160 0 26 (dk_at dksX0_lawed_2 19 rfl rfl)
theorem dX0_lawed_70 : decode cX0_lawed 70 = .ok (.iload_n 1, 1) := dk_27 (dk_at dksX0_lawed_2 22 rfl rfl)
theorem dX0_lawed_71 : decode cX0_lawed 71 = .ok (.iconst 1, 1) := dk_4 (dk_at dksX0_lawed_2 23 rfl rfl)
theorem dX0_lawed_72 : decode cX0_lawed 72 = .ok (.if_icmp .eq 17, 3) := dk_159 0 17 (dk_at dksX0_lawed_3 0 rfl rfl)
theorem dX0_lawed_75 : decode cX0_lawed 75 = .ok (.aload_n 0, 1) := dk_42 (dk_at dksX0_lawed_3 3 rfl rfl)
theorem dX0_lawed_76 : decode cX0_lawed 76 = .ok (.getfield 71, 3) := dk_180 0 71 (dk_at dksX0_lawed_3 4 rfl rfl)
theorem dX0_lawed_79 : decode cX0_lawed 79 = .ok (.getfield 221, 3) := dk_180 0 221 (dk_at dksX0_lawed_3 7 rfl rfl)
theorem dX0_lawed_82 : decode cX0_lawed 82 = .ok (.iload 5, 2) := dk_21 5 (dk_at dksX0_lawed_3 10 rfl rfl)
theorem dX0_lawed_84 : decode cX0_lawed 84 = .ok (.iaload, 1) := dk_46 (dk_at dksX0_lawed_3 12 rfl rfl)
theorem dX0_lawed_85 : decode cX0_lawed 85 = .ok (.iconst 1, 1) := dk_4 (dk_at dksX0_lawed_3 13 rfl rfl)
theorem dX0_lawed_86 : decode cX0_lawed 86 = .ok (.if_icmp .le 7, 3) := dk_164 0 7 (dk_at dksX0_lawed_3 14 rfl rfl)
theorem dX0_lawed_89 : decode cX0_lawed 89 = .ok (.iconst 1, 1) := dk_4 (dk_at dksX0_lawed_3 17 rfl rfl)
theorem dX0_lawed_90 : decode cX0_lawed 90 = .ok (.goto 4, 3) := dk_167 0 4 (dk_at dksX0_lawed_3 18 rfl rfl)
theorem dX0_lawed_93 : decode cX0_lawed 93 = .ok (.iconst 0, 1) := dk_3 (dk_at dksX0_lawed_3 21 rfl rfl)
theorem dX0_lawed_94 : decode cX0_lawed 94 = .ok (.istore 6, 2) := dk_54 6 (dk_at dksX0_lawed_3 22 rfl rfl)
theorem dX0_lawed_96 : decode cX0_lawed 96 = .ok (.iload 4, 2) := dk_21 4 (dk_at dksX0_lawed_4 0 rfl rfl)
theorem dX0_lawed_98 : decode cX0_lawed 98 = .ok (.iload 6, 2) := dk_21 6 (dk_at dksX0_lawed_4 2 rfl rfl)
theorem dX0_lawed_100 : decode cX0_lawed 100 = .ok (.ifCond .eq 10, 3) := dk_153 0 10 (dk_at dksX0_lawed_4 4 rfl rfl)
theorem dX0_lawed_103 : decode cX0_lawed 103 = .ok (.iconst 1, 1) := dk_4 (dk_at dksX0_lawed_4 7 rfl rfl)
theorem dX0_lawed_104 : decode cX0_lawed 104 = .ok (.iload 5, 2) := dk_21 5 (dk_at dksX0_lawed_4 8 rfl rfl)
theorem dX0_lawed_106 : decode cX0_lawed 106 = .ok (.ishl, 1) := dk_120 (dk_at dksX0_lawed_4 10 rfl rfl)
theorem dX0_lawed_107 : decode cX0_lawed 107 = .ok (.goto 4, 3) := dk_167 0 4 (dk_at dksX0_lawed_4 11 rfl rfl)
theorem dX0_lawed_110 : decode cX0_lawed 110 = .ok (.iconst 0, 1) := dk_3 (dk_at dksX0_lawed_4 14 rfl rfl)
theorem dX0_lawed_111 : decode cX0_lawed 111 = .ok (.ior, 1) := dk_128 (dk_at dksX0_lawed_4 15 rfl rfl)
theorem dX0_lawed_112 : decode cX0_lawed 112 = .ok (.istore 4, 2) := dk_54 4 (dk_at dksX0_lawed_4 16 rfl rfl)
theorem dX0_lawed_114 : decode cX0_lawed 114 = .ok (.iinc 5 1, 3) := dk_132 5 1 (dk_at dksX0_lawed_4 18 rfl rfl)
theorem dX0_lawed_117 : decode cX0_lawed 117 = .ok (.goto (-83), 3) := dk_167 255 173 (dk_at dksX0_lawed_4 21 rfl rfl)
theorem dX0_lawed_120 : decode cX0_lawed 120 = .ok (.iload_n 2, 1) := dk_28 (dk_at dksX0_lawed_5 0 rfl rfl)
theorem dX0_lawed_121 : decode cX0_lawed 121 = .ok (.ifCond .ne 12, 3) := dk_154 0 12 (dk_at dksX0_lawed_5 1 rfl rfl)
theorem dX0_lawed_124 : decode cX0_lawed 124 = .ok (.aload_n 0, 1) := dk_42 (dk_at dksX0_lawed_5 4 rfl rfl)
theorem dX0_lawed_125 : decode cX0_lawed 125 = .ok (.iload 4, 2) := dk_21 4 (dk_at dksX0_lawed_5 5 rfl rfl)
theorem dX0_lawed_127 : decode cX0_lawed 127 = .ok (.invokevirtual 194, 3) := dk_182 0 194 (dk_at dksX0_lawed_5 7 rfl rfl)
theorem dX0_lawed_130 : decode cX0_lawed 130 = .ok (.goto 7, 3) := dk_167 0 7 (dk_at dksX0_lawed_5 10 rfl rfl)
theorem dX0_lawed_133 : decode cX0_lawed 133 = .ok (.iload 4, 2) := dk_21 4 (dk_at dksX0_lawed_5 13 rfl rfl)
theorem dX0_lawed_135 : decode cX0_lawed 135 = .ok (.iload_n 3, 1) := dk_29 (dk_at dksX0_lawed_5 15 rfl rfl)
theorem dX0_lawed_136 : decode cX0_lawed 136 = .ok (.ixor, 1) := dk_130 (dk_at dksX0_lawed_5 16 rfl rfl)
theorem dX0_lawed_137 : decode cX0_lawed 137 = .ok (.ireturn, 1) := dk_172 (dk_at dksX0_lawed_5 17 rfl rfl)
abbrev cX0_see : ByteArray := prog_1_method_46_code
def yX0_see : MethodName := ⟨RX0, "see", "(I)I"⟩
def dkwX0_see_6 : List UInt8 := [154, 0, 10, 4, 21, 8, 120, 167, 0, 4, 3, 128, 54, 7, 132, 8, 1, 167, 255, 218, 21, 7, 172]
abbrev dktX0_see_6 : List UInt8 := dkwX0_see_6 ++ []
def dkwX0_see_5 : List UInt8 := [3, 54, 8, 21, 8, 16, 10, 162, 0, 37, 21, 7, 42, 27, 21, 8, 21, 6, 182, 1, 60, 22, 4, 148]
abbrev dktX0_see_5 : List UInt8 := dkwX0_see_5 ++ dktX0_see_6
def dkwX0_see_4 : List UInt8 := [153, 0, 15, 42, 21, 6, 4, 16, 30, 182, 1, 18, 154, 0, 9, 42, 4, 182, 0, 101, 172, 3, 54, 7]
abbrev dktX0_see_4 : List UInt8 := dkwX0_see_4 ++ dktX0_see_5
def dkwX0_see_3 : List UInt8 := [22, 4, 29, 153, 0, 10, 10, 21, 6, 121, 167, 0, 4, 9, 129, 55, 4, 132, 7, 1, 167, 255, 202, 29]
abbrev dktX0_see_3 : List UInt8 := dkwX0_see_3 ++ dktX0_see_4
def dkwX0_see_2 : List UInt8 := [42, 21, 7, 182, 1, 57, 21, 6, 4, 96, 16, 30, 184, 0, 200, 62, 42, 21, 7, 182, 1, 57, 54, 6]
abbrev dktX0_see_2 : List UInt8 := dkwX0_see_2 ++ dktX0_see_3
def dkwX0_see_1 : List UInt8 := [167, 0, 4, 3, 62, 9, 55, 4, 3, 54, 6, 3, 54, 7, 21, 7, 28, 162, 0, 54, 29, 153, 0, 50]
abbrev dktX0_see_1 : List UInt8 := dkwX0_see_1 ++ dktX0_see_2
def dkwX0_see_0 : List UInt8 := [42, 182, 0, 112, 61, 42, 27, 182, 0, 209, 153, 0, 17, 28, 4, 16, 20, 184, 0, 200, 153, 0, 7, 4]
abbrev dktX0_see_0 : List UInt8 := dkwX0_see_0 ++ dktX0_see_1
theorem dksX0_see_0 : cX0_see.data.toList.drop 0 = dktX0_see_0 := by decide +kernel
theorem dksX0_see_1 : cX0_see.data.toList.drop 24 = dktX0_see_1 := dk_seg dksX0_see_0 24 rfl rfl
theorem dksX0_see_2 : cX0_see.data.toList.drop 48 = dktX0_see_2 := dk_seg dksX0_see_1 24 rfl rfl
theorem dksX0_see_3 : cX0_see.data.toList.drop 72 = dktX0_see_3 := dk_seg dksX0_see_2 24 rfl rfl
theorem dksX0_see_4 : cX0_see.data.toList.drop 96 = dktX0_see_4 := dk_seg dksX0_see_3 24 rfl rfl
theorem dksX0_see_5 : cX0_see.data.toList.drop 120 = dktX0_see_5 := dk_seg dksX0_see_4 24 rfl rfl
theorem dksX0_see_6 : cX0_see.data.toList.drop 144 = dktX0_see_6 := dk_seg dksX0_see_5 24 rfl rfl
theorem dX0_see_0 : decode cX0_see 0 = .ok (.aload_n 0, 1) := dk_42 (dk_at dksX0_see_0 0 rfl rfl)
theorem dX0_see_1 : decode cX0_see 1 = .ok (.invokevirtual 112, 3) := dk_182 0 112 (dk_at dksX0_see_0 1 rfl rfl)
theorem dX0_see_4 : decode cX0_see 4 = .ok (.istore_n 2, 1) := dk_61 (dk_at dksX0_see_0 4 rfl rfl)
theorem dX0_see_5 : decode cX0_see 5 = .ok (.aload_n 0, 1) := dk_42 (dk_at dksX0_see_0 5 rfl rfl)
theorem dX0_see_6 : decode cX0_see 6 = .ok (.iload_n 1, 1) := dk_27 (dk_at dksX0_see_0 6 rfl rfl)
theorem dX0_see_7 : decode cX0_see 7 = .ok (.invokevirtual 209, 3) := dk_182 0 209 (dk_at dksX0_see_0 7 rfl rfl)
theorem dX0_see_10 : decode cX0_see 10 = .ok (.ifCond .eq 17, 3) := dk_153 0 17 (dk_at dksX0_see_0 10 rfl rfl)
theorem dX0_see_13 : decode cX0_see 13 = .ok (.iload_n 2, 1) := dk_28 (dk_at dksX0_see_0 13 rfl rfl)
theorem dX0_see_14 : decode cX0_see 14 = .ok (.iconst 1, 1) := dk_4 (dk_at dksX0_see_0 14 rfl rfl)
theorem dX0_see_15 : decode cX0_see 15 = .ok (.bipush 20, 2) := dk_16 20 (dk_at dksX0_see_0 15 rfl rfl)
theorem dX0_see_17 : decode cX0_see 17 = .ok (.invokestatic 200, 3) := dk_184 0 200 (dk_at dksX0_see_0 17 rfl rfl)
theorem dX0_see_20 : decode cX0_see 20 = .ok (.ifCond .eq 7, 3) := dk_153 0 7 (dk_at dksX0_see_0 20 rfl rfl)
theorem dX0_see_23 : decode cX0_see 23 = .ok (.iconst 1, 1) := dk_4 (dk_at dksX0_see_0 23 rfl rfl)
theorem dX0_see_24 : decode cX0_see 24 = .ok (.goto 4, 3) := dk_167 0 4 (dk_at dksX0_see_1 0 rfl rfl)
theorem dX0_see_27 : decode cX0_see 27 = .ok (.iconst 0, 1) := dk_3 (dk_at dksX0_see_1 3 rfl rfl)
theorem dX0_see_28 : decode cX0_see 28 = .ok (.istore_n 3, 1) := dk_62 (dk_at dksX0_see_1 4 rfl rfl)
theorem dX0_see_29 : decode cX0_see 29 = .ok (.lconst 0, 1) := dk_9 (dk_at dksX0_see_1 5 rfl rfl)
theorem dX0_see_30 : decode cX0_see 30 = .ok (.lstore 4, 2) := dk_55 4 (dk_at dksX0_see_1 6 rfl rfl)
theorem dX0_see_32 : decode cX0_see 32 = .ok (.iconst 0, 1) := dk_3 (dk_at dksX0_see_1 8 rfl rfl)
theorem dX0_see_33 : decode cX0_see 33 = .ok (.istore 6, 2) := dk_54 6 (dk_at dksX0_see_1 9 rfl rfl)
theorem dX0_see_35 : decode cX0_see 35 = .ok (.iconst 0, 1) := dk_3 (dk_at dksX0_see_1 11 rfl rfl)
theorem dX0_see_36 : decode cX0_see 36 = .ok (.istore 7, 2) := dk_54 7 (dk_at dksX0_see_1 12 rfl rfl)
theorem dX0_see_38 : decode cX0_see 38 = .ok (.iload 7, 2) := dk_21 7 (dk_at dksX0_see_1 14 rfl rfl)
theorem dX0_see_40 : decode cX0_see 40 = .ok (.iload_n 2, 1) := dk_28 (dk_at dksX0_see_1 16 rfl rfl)
theorem dX0_see_41 : decode cX0_see 41 = .ok (.if_icmp .ge 54, 3) := dk_162 0 54 (dk_at dksX0_see_1 17 rfl rfl)
theorem dX0_see_44 : decode cX0_see 44 = .ok (.iload_n 3, 1) := dk_29 (dk_at dksX0_see_1 20 rfl rfl)
theorem dX0_see_45 : decode cX0_see 45 = .ok (.ifCond .eq 50, 3) := dk_153 0 50 (dk_at dksX0_see_1 21 rfl rfl)
theorem dX0_see_48 : decode cX0_see 48 = .ok (.aload_n 0, 1) := dk_42 (dk_at dksX0_see_2 0 rfl rfl)
theorem dX0_see_49 : decode cX0_see 49 = .ok (.iload 7, 2) := dk_21 7 (dk_at dksX0_see_2 1 rfl rfl)
theorem dX0_see_51 : decode cX0_see 51 = .ok (.invokevirtual 313, 3) := dk_182 1 57 (dk_at dksX0_see_2 3 rfl rfl)
theorem dX0_see_54 : decode cX0_see 54 = .ok (.iload 6, 2) := dk_21 6 (dk_at dksX0_see_2 6 rfl rfl)
theorem dX0_see_56 : decode cX0_see 56 = .ok (.iconst 1, 1) := dk_4 (dk_at dksX0_see_2 8 rfl rfl)
theorem dX0_see_57 : decode cX0_see 57 = .ok (.iadd, 1) := dk_96 (dk_at dksX0_see_2 9 rfl rfl)
theorem dX0_see_58 : decode cX0_see 58 = .ok (.bipush 30, 2) := dk_16 30 (dk_at dksX0_see_2 10 rfl rfl)
theorem dX0_see_60 : decode cX0_see 60 = .ok (.invokestatic 200, 3) := dk_184 0 200 (dk_at dksX0_see_2 12 rfl rfl)
theorem dX0_see_63 : decode cX0_see 63 = .ok (.istore_n 3, 1) := dk_62 (dk_at dksX0_see_2 15 rfl rfl)
theorem dX0_see_64 : decode cX0_see 64 = .ok (.aload_n 0, 1) := dk_42 (dk_at dksX0_see_2 16 rfl rfl)
theorem dX0_see_65 : decode cX0_see 65 = .ok (.iload 7, 2) := dk_21 7 (dk_at dksX0_see_2 17 rfl rfl)
theorem dX0_see_67 : decode cX0_see 67 = .ok (.invokevirtual 313, 3) := dk_182 1 57 (dk_at dksX0_see_2 19 rfl rfl)
theorem dX0_see_70 : decode cX0_see 70 = .ok (.istore 6, 2) := dk_54 6 (dk_at dksX0_see_2 22 rfl rfl)
theorem dX0_see_72 : decode cX0_see 72 = .ok (.lload 4, 2) := dk_22 4 (dk_at dksX0_see_3 0 rfl rfl)
theorem dX0_see_74 : decode cX0_see 74 = .ok (.iload_n 3, 1) := dk_29 (dk_at dksX0_see_3 2 rfl rfl)
theorem dX0_see_75 : decode cX0_see 75 = .ok (.ifCond .eq 10, 3) := dk_153 0 10 (dk_at dksX0_see_3 3 rfl rfl)
theorem dX0_see_78 : decode cX0_see 78 = .ok (.lconst 1, 1) := dk_10 (dk_at dksX0_see_3 6 rfl rfl)
theorem dX0_see_79 : decode cX0_see 79 = .ok (.iload 6, 2) := dk_21 6 (dk_at dksX0_see_3 7 rfl rfl)
theorem dX0_see_81 : decode cX0_see 81 = .ok (.lshl, 1) := dk_121 (dk_at dksX0_see_3 9 rfl rfl)
theorem dX0_see_82 : decode cX0_see 82 = .ok (.goto 4, 3) := dk_167 0 4 (dk_at dksX0_see_3 10 rfl rfl)
theorem dX0_see_85 : decode cX0_see 85 = .ok (.lconst 0, 1) := dk_9 (dk_at dksX0_see_3 13 rfl rfl)
theorem dX0_see_86 : decode cX0_see 86 = .ok (.lor, 1) := dk_129 (dk_at dksX0_see_3 14 rfl rfl)
theorem dX0_see_87 : decode cX0_see 87 = .ok (.lstore 4, 2) := dk_55 4 (dk_at dksX0_see_3 15 rfl rfl)
theorem dX0_see_89 : decode cX0_see 89 = .ok (.iinc 7 1, 3) := dk_132 7 1 (dk_at dksX0_see_3 17 rfl rfl)
theorem dX0_see_92 : decode cX0_see 92 = .ok (.goto (-54), 3) := dk_167 255 202 (dk_at dksX0_see_3 20 rfl rfl)
theorem dX0_see_95 : decode cX0_see 95 = .ok (.iload_n 3, 1) := dk_29 (dk_at dksX0_see_3 23 rfl rfl)
theorem dX0_see_96 : decode cX0_see 96 = .ok (.ifCond .eq 15, 3) := dk_153 0 15 (dk_at dksX0_see_4 0 rfl rfl)
theorem dX0_see_99 : decode cX0_see 99 = .ok (.aload_n 0, 1) := dk_42 (dk_at dksX0_see_4 3 rfl rfl)
theorem dX0_see_100 : decode cX0_see 100 = .ok (.iload 6, 2) := dk_21 6 (dk_at dksX0_see_4 4 rfl rfl)
theorem dX0_see_102 : decode cX0_see 102 = .ok (.iconst 1, 1) := dk_4 (dk_at dksX0_see_4 6 rfl rfl)
theorem dX0_see_103 : decode cX0_see 103 = .ok (.bipush 30, 2) := dk_16 30 (dk_at dksX0_see_4 7 rfl rfl)
theorem dX0_see_105 : decode cX0_see 105 = .ok (.invokevirtual 274, 3) := dk_182 1 18 (dk_at dksX0_see_4 9 rfl rfl)
theorem dX0_see_108 : decode cX0_see 108 = .ok (.ifCond .ne 9, 3) := dk_154 0 9 (dk_at dksX0_see_4 12 rfl rfl)
theorem dX0_see_111 : decode cX0_see 111 = .ok (.aload_n 0, 1) := dk_42 (dk_at dksX0_see_4 15 rfl rfl)
theorem dX0_see_112 : decode cX0_see 112 = .ok (.iconst 1, 1) := dk_4 (dk_at dksX0_see_4 16 rfl rfl)
theorem dX0_see_113 : decode cX0_see 113 = .ok (.invokevirtual 101, 3) := dk_182 0 101 (dk_at dksX0_see_4 17 rfl rfl)
theorem dX0_see_116 : decode cX0_see 116 = .ok (.ireturn, 1) := dk_172 (dk_at dksX0_see_4 20 rfl rfl)
theorem dX0_see_117 : decode cX0_see 117 = .ok (.iconst 0, 1) := dk_3 (dk_at dksX0_see_4 21 rfl rfl)
theorem dX0_see_118 : decode cX0_see 118 = .ok (.istore 7, 2) := dk_54 7 (dk_at dksX0_see_4 22 rfl rfl)
theorem dX0_see_120 : decode cX0_see 120 = .ok (.iconst 0, 1) := dk_3 (dk_at dksX0_see_5 0 rfl rfl)
theorem dX0_see_121 : decode cX0_see 121 = .ok (.istore 8, 2) := dk_54 8 (dk_at dksX0_see_5 1 rfl rfl)
theorem dX0_see_123 : decode cX0_see 123 = .ok (.iload 8, 2) := dk_21 8 (dk_at dksX0_see_5 3 rfl rfl)
theorem dX0_see_125 : decode cX0_see 125 = .ok (.bipush 10, 2) := dk_16 10 (dk_at dksX0_see_5 5 rfl rfl)
theorem dX0_see_127 : decode cX0_see 127 = .ok (.if_icmp .ge 37, 3) := dk_162 0 37 (dk_at dksX0_see_5 7 rfl rfl)
theorem dX0_see_130 : decode cX0_see 130 = .ok (.iload 7, 2) := dk_21 7 (dk_at dksX0_see_5 10 rfl rfl)
theorem dX0_see_132 : decode cX0_see 132 = .ok (.aload_n 0, 1) := dk_42 (dk_at dksX0_see_5 12 rfl rfl)
theorem dX0_see_133 : decode cX0_see 133 = .ok (.iload_n 1, 1) := dk_27 (dk_at dksX0_see_5 13 rfl rfl)
theorem dX0_see_134 : decode cX0_see 134 = .ok (.iload 8, 2) := dk_21 8 (dk_at dksX0_see_5 14 rfl rfl)
theorem dX0_see_136 : decode cX0_see 136 = .ok (.iload 6, 2) := dk_21 6 (dk_at dksX0_see_5 16 rfl rfl)
theorem dX0_see_138 : decode cX0_see 138 = .ok (.invokevirtual 316, 3) := dk_182 1 60 (dk_at dksX0_see_5 18 rfl rfl)
theorem dX0_see_141 : decode cX0_see 141 = .ok (.lload 4, 2) := dk_22 4 (dk_at dksX0_see_5 21 rfl rfl)
theorem dX0_see_143 : decode cX0_see 143 = .ok (.lcmp, 1) := dk_148 (dk_at dksX0_see_5 23 rfl rfl)
theorem dX0_see_144 : decode cX0_see 144 = .ok (.ifCond .ne 10, 3) := dk_154 0 10 (dk_at dksX0_see_6 0 rfl rfl)
theorem dX0_see_147 : decode cX0_see 147 = .ok (.iconst 1, 1) := dk_4 (dk_at dksX0_see_6 3 rfl rfl)
theorem dX0_see_148 : decode cX0_see 148 = .ok (.iload 8, 2) := dk_21 8 (dk_at dksX0_see_6 4 rfl rfl)
theorem dX0_see_150 : decode cX0_see 150 = .ok (.ishl, 1) := dk_120 (dk_at dksX0_see_6 6 rfl rfl)
theorem dX0_see_151 : decode cX0_see 151 = .ok (.goto 4, 3) := dk_167 0 4 (dk_at dksX0_see_6 7 rfl rfl)
theorem dX0_see_154 : decode cX0_see 154 = .ok (.iconst 0, 1) := dk_3 (dk_at dksX0_see_6 10 rfl rfl)
theorem dX0_see_155 : decode cX0_see 155 = .ok (.ior, 1) := dk_128 (dk_at dksX0_see_6 11 rfl rfl)
theorem dX0_see_156 : decode cX0_see 156 = .ok (.istore 7, 2) := dk_54 7 (dk_at dksX0_see_6 12 rfl rfl)
theorem dX0_see_158 : decode cX0_see 158 = .ok (.iinc 8 1, 3) := dk_132 8 1 (dk_at dksX0_see_6 14 rfl rfl)
theorem dX0_see_161 : decode cX0_see 161 = .ok (.goto (-38), 3) := dk_167 255 218 (dk_at dksX0_see_6 17 rfl rfl)
theorem dX0_see_164 : decode cX0_see 164 = .ok (.iload 7, 2) := dk_21 7 (dk_at dksX0_see_6 20 rfl rfl)
theorem dX0_see_166 : decode cX0_see 166 = .ok (.ireturn, 1) := dk_172 (dk_at dksX0_see_6 22 rfl rfl)
abbrev cX0_byteAt : ByteArray := prog_1_method_44_code
def yX0_byteAt : MethodName := ⟨RX0, "byteAt", "(I)I"⟩
def dkwX0_byteAt_0 : List UInt8 := [42, 180, 0, 37, 27, 51, 17, 0, 255, 126, 172]
abbrev dktX0_byteAt_0 : List UInt8 := dkwX0_byteAt_0 ++ []
theorem dksX0_byteAt_0 : cX0_byteAt.data.toList.drop 0 = dktX0_byteAt_0 := by decide +kernel
theorem dX0_byteAt_0 : decode cX0_byteAt 0 = .ok (.aload_n 0, 1) := dk_42 (dk_at dksX0_byteAt_0 0 rfl rfl)
theorem dX0_byteAt_1 : decode cX0_byteAt 1 = .ok (.getfield 37, 3) := dk_180 0 37 (dk_at dksX0_byteAt_0 1 rfl rfl)
theorem dX0_byteAt_4 : decode cX0_byteAt 4 = .ok (.iload_n 1, 1) := dk_27 (dk_at dksX0_byteAt_0 4 rfl rfl)
theorem dX0_byteAt_5 : decode cX0_byteAt 5 = .ok (.baload, 1) := dk_51 (dk_at dksX0_byteAt_0 5 rfl rfl)
theorem dX0_byteAt_6 : decode cX0_byteAt 6 = .ok (.sipush 255, 3) := dk_17 0 255 (dk_at dksX0_byteAt_0 6 rfl rfl)
theorem dX0_byteAt_9 : decode cX0_byteAt 9 = .ok (.iand, 1) := dk_126 (dk_at dksX0_byteAt_0 9 rfl rfl)
theorem dX0_byteAt_10 : decode cX0_byteAt 10 = .ok (.ireturn, 1) := dk_172 (dk_at dksX0_byteAt_0 10 rfl rfl)
abbrev cX0_breaksBy : ByteArray := prog_1_method_45_code
def yX0_breaksBy : MethodName := ⟨RX0, "breaksBy", "(III)J"⟩
def dkwX0_breaksBy_3 : List UInt8 := [132, 6, 1, 167, 255, 216, 42, 180, 0, 75, 2, 181, 1, 53, 22, 4, 173]
abbrev dktX0_breaksBy_3 : List UInt8 := dkwX0_breaksBy_3 ++ []
def dkwX0_breaksBy_2 : List UInt8 := [42, 180, 0, 75, 180, 1, 28, 27, 184, 0, 163, 153, 0, 12, 22, 4, 10, 21, 6, 121, 129, 55, 4]
abbrev dktX0_breaksBy_2 : List UInt8 := dkwX0_breaksBy_2 ++ dktX0_breaksBy_3
def dkwX0_breaksBy_1 : List UInt8 := [28, 181, 1, 56, 9, 55, 4, 4, 54, 6, 21, 6, 29, 163, 0, 40, 42, 180, 0, 75, 182, 1, 25, 87]
abbrev dktX0_breaksBy_1 : List UInt8 := dkwX0_breaksBy_1 ++ dktX0_breaksBy_2
def dkwX0_breaksBy_0 : List UInt8 := [42, 180, 0, 75, 42, 180, 0, 71, 182, 1, 21, 87, 42, 180, 0, 75, 27, 181, 1, 53, 42, 180, 0, 75]
abbrev dktX0_breaksBy_0 : List UInt8 := dkwX0_breaksBy_0 ++ dktX0_breaksBy_1
theorem dksX0_breaksBy_0 : cX0_breaksBy.data.toList.drop 0 = dktX0_breaksBy_0 := by decide +kernel
theorem dksX0_breaksBy_1 : cX0_breaksBy.data.toList.drop 24 = dktX0_breaksBy_1 := dk_seg dksX0_breaksBy_0 24 rfl rfl
theorem dksX0_breaksBy_2 : cX0_breaksBy.data.toList.drop 48 = dktX0_breaksBy_2 := dk_seg dksX0_breaksBy_1 24 rfl rfl
theorem dksX0_breaksBy_3 : cX0_breaksBy.data.toList.drop 71 = dktX0_breaksBy_3 := dk_seg dksX0_breaksBy_2 23 rfl rfl
theorem dX0_breaksBy_0 : decode cX0_breaksBy 0 = .ok (.aload_n 0, 1) := dk_42 (dk_at dksX0_breaksBy_0 0 rfl rfl)
theorem dX0_breaksBy_1 : decode cX0_breaksBy 1 = .ok (.getfield 75, 3) := dk_180 0 75 (dk_at dksX0_breaksBy_0 1 rfl rfl)
theorem dX0_breaksBy_4 : decode cX0_breaksBy 4 = .ok (.aload_n 0, 1) := dk_42 (dk_at dksX0_breaksBy_0 4 rfl rfl)
theorem dX0_breaksBy_5 : decode cX0_breaksBy 5 = .ok (.getfield 71, 3) := dk_180 0 71 (dk_at dksX0_breaksBy_0 5 rfl rfl)
theorem dX0_breaksBy_8 : decode cX0_breaksBy 8 = .ok (.invokevirtual 277, 3) := dk_182 1 21 (dk_at dksX0_breaksBy_0 8 rfl rfl)
theorem dX0_breaksBy_11 : decode cX0_breaksBy 11 = .ok (.pop, 1) := dk_87 (dk_at dksX0_breaksBy_0 11 rfl rfl)
theorem dX0_breaksBy_12 : decode cX0_breaksBy 12 = .ok (.aload_n 0, 1) := dk_42 (dk_at dksX0_breaksBy_0 12 rfl rfl)
theorem dX0_breaksBy_13 : decode cX0_breaksBy 13 = .ok (.getfield 75, 3) := dk_180 0 75 (dk_at dksX0_breaksBy_0 13 rfl rfl)
theorem dX0_breaksBy_16 : decode cX0_breaksBy 16 = .ok (.iload_n 1, 1) := dk_27 (dk_at dksX0_breaksBy_0 16 rfl rfl)
theorem dX0_breaksBy_17 : decode cX0_breaksBy 17 = .ok (.putfield 309, 3) := dk_181 1 53 (dk_at dksX0_breaksBy_0 17 rfl rfl)
theorem dX0_breaksBy_20 : decode cX0_breaksBy 20 = .ok (.aload_n 0, 1) := dk_42 (dk_at dksX0_breaksBy_0 20 rfl rfl)
theorem dX0_breaksBy_21 : decode cX0_breaksBy 21 = .ok (.getfield 75, 3) := dk_180 0 75 (dk_at dksX0_breaksBy_0 21 rfl rfl)
theorem dX0_breaksBy_24 : decode cX0_breaksBy 24 = .ok (.iload_n 2, 1) := dk_28 (dk_at dksX0_breaksBy_1 0 rfl rfl)
theorem dX0_breaksBy_25 : decode cX0_breaksBy 25 = .ok (.putfield 312, 3) := dk_181 1 56 (dk_at dksX0_breaksBy_1 1 rfl rfl)
theorem dX0_breaksBy_28 : decode cX0_breaksBy 28 = .ok (.lconst 0, 1) := dk_9 (dk_at dksX0_breaksBy_1 4 rfl rfl)
theorem dX0_breaksBy_29 : decode cX0_breaksBy 29 = .ok (.lstore 4, 2) := dk_55 4 (dk_at dksX0_breaksBy_1 5 rfl rfl)
theorem dX0_breaksBy_31 : decode cX0_breaksBy 31 = .ok (.iconst 1, 1) := dk_4 (dk_at dksX0_breaksBy_1 7 rfl rfl)
theorem dX0_breaksBy_32 : decode cX0_breaksBy 32 = .ok (.istore 6, 2) := dk_54 6 (dk_at dksX0_breaksBy_1 8 rfl rfl)
theorem dX0_breaksBy_34 : decode cX0_breaksBy 34 = .ok (.iload 6, 2) := dk_21 6 (dk_at dksX0_breaksBy_1 10 rfl rfl)
theorem dX0_breaksBy_36 : decode cX0_breaksBy 36 = .ok (.iload_n 3, 1) := dk_29 (dk_at dksX0_breaksBy_1 12 rfl rfl)
theorem dX0_breaksBy_37 : decode cX0_breaksBy 37 = .ok (.if_icmp .gt 40, 3) := dk_163 0 40 (dk_at dksX0_breaksBy_1 13 rfl rfl)
theorem dX0_breaksBy_40 : decode cX0_breaksBy 40 = .ok (.aload_n 0, 1) := dk_42 (dk_at dksX0_breaksBy_1 16 rfl rfl)
theorem dX0_breaksBy_41 : decode cX0_breaksBy 41 = .ok (.getfield 75, 3) := dk_180 0 75 (dk_at dksX0_breaksBy_1 17 rfl rfl)
theorem dX0_breaksBy_44 : decode cX0_breaksBy 44 = .ok (.invokevirtual 281, 3) := dk_182 1 25 (dk_at dksX0_breaksBy_1 20 rfl rfl)
theorem dX0_breaksBy_47 : decode cX0_breaksBy 47 = .ok (.pop, 1) := dk_87 (dk_at dksX0_breaksBy_1 23 rfl rfl)
theorem dX0_breaksBy_48 : decode cX0_breaksBy 48 = .ok (.aload_n 0, 1) := dk_42 (dk_at dksX0_breaksBy_2 0 rfl rfl)
theorem dX0_breaksBy_49 : decode cX0_breaksBy 49 = .ok (.getfield 75, 3) := dk_180 0 75 (dk_at dksX0_breaksBy_2 1 rfl rfl)
theorem dX0_breaksBy_52 : decode cX0_breaksBy 52 = .ok (.getfield 284, 3) := dk_180 1 28 (dk_at dksX0_breaksBy_2 4 rfl rfl)
theorem dX0_breaksBy_55 : decode cX0_breaksBy 55 = .ok (.iload_n 1, 1) := dk_27 (dk_at dksX0_breaksBy_2 7 rfl rfl)
theorem dX0_breaksBy_56 : decode cX0_breaksBy 56 = .ok (.invokestatic 163, 3) := dk_184 0 163 (dk_at dksX0_breaksBy_2 8 rfl rfl)
theorem dX0_breaksBy_59 : decode cX0_breaksBy 59 = .ok (.ifCond .eq 12, 3) := dk_153 0 12 (dk_at dksX0_breaksBy_2 11 rfl rfl)
theorem dX0_breaksBy_62 : decode cX0_breaksBy 62 = .ok (.lload 4, 2) := dk_22 4 (dk_at dksX0_breaksBy_2 14 rfl rfl)
theorem dX0_breaksBy_64 : decode cX0_breaksBy 64 = .ok (.lconst 1, 1) := dk_10 (dk_at dksX0_breaksBy_2 16 rfl rfl)
theorem dX0_breaksBy_65 : decode cX0_breaksBy 65 = .ok (.iload 6, 2) := dk_21 6 (dk_at dksX0_breaksBy_2 17 rfl rfl)
theorem dX0_breaksBy_67 : decode cX0_breaksBy 67 = .ok (.lshl, 1) := dk_121 (dk_at dksX0_breaksBy_2 19 rfl rfl)
theorem dX0_breaksBy_68 : decode cX0_breaksBy 68 = .ok (.lor, 1) := dk_129 (dk_at dksX0_breaksBy_2 20 rfl rfl)
theorem dX0_breaksBy_69 : decode cX0_breaksBy 69 = .ok (.lstore 4, 2) := dk_55 4 (dk_at dksX0_breaksBy_2 21 rfl rfl)
theorem dX0_breaksBy_71 : decode cX0_breaksBy 71 = .ok (.iinc 6 1, 3) := dk_132 6 1 (dk_at dksX0_breaksBy_3 0 rfl rfl)
theorem dX0_breaksBy_74 : decode cX0_breaksBy 74 = .ok (.goto (-40), 3) := dk_167 255 216 (dk_at dksX0_breaksBy_3 3 rfl rfl)
theorem dX0_breaksBy_77 : decode cX0_breaksBy 77 = .ok (.aload_n 0, 1) := dk_42 (dk_at dksX0_breaksBy_3 6 rfl rfl)
theorem dX0_breaksBy_78 : decode cX0_breaksBy 78 = .ok (.getfield 75, 3) := dk_180 0 75 (dk_at dksX0_breaksBy_3 7 rfl rfl)
theorem dX0_breaksBy_81 : decode cX0_breaksBy 81 = .ok (.iconst (-1), 1) := dk_2 (dk_at dksX0_breaksBy_3 10 rfl rfl)
theorem dX0_breaksBy_82 : decode cX0_breaksBy 82 = .ok (.putfield 309, 3) := dk_181 1 53 (dk_at dksX0_breaksBy_3 11 rfl rfl)
theorem dX0_breaksBy_85 : decode cX0_breaksBy 85 = .ok (.lload 4, 2) := dk_22 4 (dk_at dksX0_breaksBy_3 14 rfl rfl)
theorem dX0_breaksBy_87 : decode cX0_breaksBy 87 = .ok (.lreturn, 1) := dk_173 (dk_at dksX0_breaksBy_3 16 rfl rfl)
abbrev cX0_tells : ByteArray := prog_1_method_47_code
def yX0_tells : MethodName := ⟨RX0, "tells", "(II)I"⟩
def dkwX0_tells_6 : List UInt8 := [21, 6, 54, 4, 132, 6, 1, 167, 255, 212, 28, 154, 0, 8, 21, 4, 167, 0, 5, 21, 5, 172]
abbrev dktX0_tells_6 : List UInt8 := dkwX0_tells_6 ++ []
def dkwX0_tells_5 : List UInt8 := [21, 6, 46, 100, 184, 1, 64, 54, 7, 21, 7, 21, 5, 161, 0, 6, 167, 0, 11, 21, 7, 54, 5]
abbrev dktX0_tells_5 : List UInt8 := dkwX0_tells_5 ++ dktX0_tells_6
def dkwX0_tells_4 : List UInt8 := [54, 4, 19, 1, 49, 54, 5, 4, 54, 6, 21, 6, 16, 30, 163, 0, 43, 45, 21, 6, 46, 16, 10, 45]
abbrev dktX0_tells_4 : List UInt8 := dkwX0_tells_4 ++ dktX0_tells_5
def dkwX0_tells_3 : List UInt8 := [46, 22, 5, 21, 7, 123, 10, 127, 136, 96, 79, 132, 7, 1, 167, 255, 231, 132, 4, 1, 167, 255, 204, 2]
abbrev dktX0_tells_3 : List UInt8 := dkwX0_tells_3 ++ dktX0_tells_4
def dkwX0_tells_2 : List UInt8 := [27, 21, 4, 16, 30, 182, 1, 60, 55, 5, 4, 54, 7, 21, 7, 16, 30, 163, 0, 24, 45, 21, 7, 92]
abbrev dktX0_tells_2 : List UInt8 := dkwX0_tells_2 ++ dktX0_tells_3
def dkwX0_tells_1 : List UInt8 := [184, 0, 200, 154, 0, 5, 2, 172, 16, 31, 188, 10, 78, 3, 54, 4, 21, 4, 16, 10, 162, 0, 51, 42]
abbrev dktX0_tells_1 : List UInt8 := dkwX0_tells_1 ++ dktX0_tells_2
def dkwX0_tells_0 : List UInt8 := [42, 27, 182, 0, 209, 153, 0, 25, 42, 16, 30, 16, 30, 16, 30, 182, 1, 18, 153, 0, 12, 28, 3, 4]
abbrev dktX0_tells_0 : List UInt8 := dkwX0_tells_0 ++ dktX0_tells_1
theorem dksX0_tells_0 : cX0_tells.data.toList.drop 0 = dktX0_tells_0 := by decide +kernel
theorem dksX0_tells_1 : cX0_tells.data.toList.drop 24 = dktX0_tells_1 := dk_seg dksX0_tells_0 24 rfl rfl
theorem dksX0_tells_2 : cX0_tells.data.toList.drop 48 = dktX0_tells_2 := dk_seg dksX0_tells_1 24 rfl rfl
theorem dksX0_tells_3 : cX0_tells.data.toList.drop 72 = dktX0_tells_3 := dk_seg dksX0_tells_2 24 rfl rfl
theorem dksX0_tells_4 : cX0_tells.data.toList.drop 96 = dktX0_tells_4 := dk_seg dksX0_tells_3 24 rfl rfl
theorem dksX0_tells_5 : cX0_tells.data.toList.drop 120 = dktX0_tells_5 := dk_seg dksX0_tells_4 24 rfl rfl
theorem dksX0_tells_6 : cX0_tells.data.toList.drop 143 = dktX0_tells_6 := dk_seg dksX0_tells_5 23 rfl rfl
theorem dX0_tells_0 : decode cX0_tells 0 = .ok (.aload_n 0, 1) := dk_42 (dk_at dksX0_tells_0 0 rfl rfl)
theorem dX0_tells_1 : decode cX0_tells 1 = .ok (.iload_n 1, 1) := dk_27 (dk_at dksX0_tells_0 1 rfl rfl)
theorem dX0_tells_2 : decode cX0_tells 2 = .ok (.invokevirtual 209, 3) := dk_182 0 209 (dk_at dksX0_tells_0 2 rfl rfl)
theorem dX0_tells_5 : decode cX0_tells 5 = .ok (.ifCond .eq 25, 3) := dk_153 0 25 (dk_at dksX0_tells_0 5 rfl rfl)
theorem dX0_tells_8 : decode cX0_tells 8 = .ok (.aload_n 0, 1) := dk_42 (dk_at dksX0_tells_0 8 rfl rfl)
theorem dX0_tells_9 : decode cX0_tells 9 = .ok (.bipush 30, 2) := dk_16 30 (dk_at dksX0_tells_0 9 rfl rfl)
theorem dX0_tells_11 : decode cX0_tells 11 = .ok (.bipush 30, 2) := dk_16 30 (dk_at dksX0_tells_0 11 rfl rfl)
theorem dX0_tells_13 : decode cX0_tells 13 = .ok (.bipush 30, 2) := dk_16 30 (dk_at dksX0_tells_0 13 rfl rfl)
theorem dX0_tells_15 : decode cX0_tells 15 = .ok (.invokevirtual 274, 3) := dk_182 1 18 (dk_at dksX0_tells_0 15 rfl rfl)
theorem dX0_tells_18 : decode cX0_tells 18 = .ok (.ifCond .eq 12, 3) := dk_153 0 12 (dk_at dksX0_tells_0 18 rfl rfl)
theorem dX0_tells_21 : decode cX0_tells 21 = .ok (.iload_n 2, 1) := dk_28 (dk_at dksX0_tells_0 21 rfl rfl)
theorem dX0_tells_22 : decode cX0_tells 22 = .ok (.iconst 0, 1) := dk_3 (dk_at dksX0_tells_0 22 rfl rfl)
theorem dX0_tells_23 : decode cX0_tells 23 = .ok (.iconst 1, 1) := dk_4 (dk_at dksX0_tells_0 23 rfl rfl)
theorem dX0_tells_24 : decode cX0_tells 24 = .ok (.invokestatic 200, 3) := dk_184 0 200 (dk_at dksX0_tells_1 0 rfl rfl)
theorem dX0_tells_27 : decode cX0_tells 27 = .ok (.ifCond .ne 5, 3) := dk_154 0 5 (dk_at dksX0_tells_1 3 rfl rfl)
theorem dX0_tells_30 : decode cX0_tells 30 = .ok (.iconst (-1), 1) := dk_2 (dk_at dksX0_tells_1 6 rfl rfl)
theorem dX0_tells_31 : decode cX0_tells 31 = .ok (.ireturn, 1) := dk_172 (dk_at dksX0_tells_1 7 rfl rfl)
theorem dX0_tells_32 : decode cX0_tells 32 = .ok (.bipush 31, 2) := dk_16 31 (dk_at dksX0_tells_1 8 rfl rfl)
theorem dX0_tells_34 : decode cX0_tells 34 = .ok (.newarray .int, 2) := dk_188_10 (dk_at dksX0_tells_1 10 rfl rfl)
theorem dX0_tells_36 : decode cX0_tells 36 = .ok (.astore_n 3, 1) := dk_78 (dk_at dksX0_tells_1 12 rfl rfl)
theorem dX0_tells_37 : decode cX0_tells 37 = .ok (.iconst 0, 1) := dk_3 (dk_at dksX0_tells_1 13 rfl rfl)
theorem dX0_tells_38 : decode cX0_tells 38 = .ok (.istore 4, 2) := dk_54 4 (dk_at dksX0_tells_1 14 rfl rfl)
theorem dX0_tells_40 : decode cX0_tells 40 = .ok (.iload 4, 2) := dk_21 4 (dk_at dksX0_tells_1 16 rfl rfl)
theorem dX0_tells_42 : decode cX0_tells 42 = .ok (.bipush 10, 2) := dk_16 10 (dk_at dksX0_tells_1 18 rfl rfl)
theorem dX0_tells_44 : decode cX0_tells 44 = .ok (.if_icmp .ge 51, 3) := dk_162 0 51 (dk_at dksX0_tells_1 20 rfl rfl)
theorem dX0_tells_47 : decode cX0_tells 47 = .ok (.aload_n 0, 1) := dk_42 (dk_at dksX0_tells_1 23 rfl rfl)
theorem dX0_tells_48 : decode cX0_tells 48 = .ok (.iload_n 1, 1) := dk_27 (dk_at dksX0_tells_2 0 rfl rfl)
theorem dX0_tells_49 : decode cX0_tells 49 = .ok (.iload 4, 2) := dk_21 4 (dk_at dksX0_tells_2 1 rfl rfl)
theorem dX0_tells_51 : decode cX0_tells 51 = .ok (.bipush 30, 2) := dk_16 30 (dk_at dksX0_tells_2 3 rfl rfl)
theorem dX0_tells_53 : decode cX0_tells 53 = .ok (.invokevirtual 316, 3) := dk_182 1 60 (dk_at dksX0_tells_2 5 rfl rfl)
theorem dX0_tells_56 : decode cX0_tells 56 = .ok (.lstore 5, 2) := dk_55 5 (dk_at dksX0_tells_2 8 rfl rfl)
theorem dX0_tells_58 : decode cX0_tells 58 = .ok (.iconst 1, 1) := dk_4 (dk_at dksX0_tells_2 10 rfl rfl)
theorem dX0_tells_59 : decode cX0_tells 59 = .ok (.istore 7, 2) := dk_54 7 (dk_at dksX0_tells_2 11 rfl rfl)
theorem dX0_tells_61 : decode cX0_tells 61 = .ok (.iload 7, 2) := dk_21 7 (dk_at dksX0_tells_2 13 rfl rfl)
theorem dX0_tells_63 : decode cX0_tells 63 = .ok (.bipush 30, 2) := dk_16 30 (dk_at dksX0_tells_2 15 rfl rfl)
theorem dX0_tells_65 : decode cX0_tells 65 = .ok (.if_icmp .gt 24, 3) := dk_163 0 24 (dk_at dksX0_tells_2 17 rfl rfl)
theorem dX0_tells_68 : decode cX0_tells 68 = .ok (.aload_n 3, 1) := dk_45 (dk_at dksX0_tells_2 20 rfl rfl)
theorem dX0_tells_69 : decode cX0_tells 69 = .ok (.iload 7, 2) := dk_21 7 (dk_at dksX0_tells_2 21 rfl rfl)
theorem dX0_tells_71 : decode cX0_tells 71 = .ok (.dup2, 1) := dk_92 (dk_at dksX0_tells_2 23 rfl rfl)
theorem dX0_tells_72 : decode cX0_tells 72 = .ok (.iaload, 1) := dk_46 (dk_at dksX0_tells_3 0 rfl rfl)
theorem dX0_tells_73 : decode cX0_tells 73 = .ok (.lload 5, 2) := dk_22 5 (dk_at dksX0_tells_3 1 rfl rfl)
theorem dX0_tells_75 : decode cX0_tells 75 = .ok (.iload 7, 2) := dk_21 7 (dk_at dksX0_tells_3 3 rfl rfl)
theorem dX0_tells_77 : decode cX0_tells 77 = .ok (.lshr, 1) := dk_123 (dk_at dksX0_tells_3 5 rfl rfl)
theorem dX0_tells_78 : decode cX0_tells 78 = .ok (.lconst 1, 1) := dk_10 (dk_at dksX0_tells_3 6 rfl rfl)
theorem dX0_tells_79 : decode cX0_tells 79 = .ok (.land, 1) := dk_127 (dk_at dksX0_tells_3 7 rfl rfl)
theorem dX0_tells_80 : decode cX0_tells 80 = .ok (.l2i, 1) := dk_136 (dk_at dksX0_tells_3 8 rfl rfl)
theorem dX0_tells_81 : decode cX0_tells 81 = .ok (.iadd, 1) := dk_96 (dk_at dksX0_tells_3 9 rfl rfl)
theorem dX0_tells_82 : decode cX0_tells 82 = .ok (.iastore, 1) := dk_79 (dk_at dksX0_tells_3 10 rfl rfl)
theorem dX0_tells_83 : decode cX0_tells 83 = .ok (.iinc 7 1, 3) := dk_132 7 1 (dk_at dksX0_tells_3 11 rfl rfl)
theorem dX0_tells_86 : decode cX0_tells 86 = .ok (.goto (-25), 3) := dk_167 255 231 (dk_at dksX0_tells_3 14 rfl rfl)
theorem dX0_tells_89 : decode cX0_tells 89 = .ok (.iinc 4 1, 3) := dk_132 4 1 (dk_at dksX0_tells_3 17 rfl rfl)
theorem dX0_tells_92 : decode cX0_tells 92 = .ok (.goto (-52), 3) := dk_167 255 204 (dk_at dksX0_tells_3 20 rfl rfl)
theorem dX0_tells_95 : decode cX0_tells 95 = .ok (.iconst (-1), 1) := dk_2 (dk_at dksX0_tells_3 23 rfl rfl)
theorem dX0_tells_96 : decode cX0_tells 96 = .ok (.istore 4, 2) := dk_54 4 (dk_at dksX0_tells_4 0 rfl rfl)
theorem dX0_tells_98 : decode cX0_tells 98 = .ok (.ldc_w 305, 3) := dk_19 1 49 (dk_at dksX0_tells_4 2 rfl rfl)
theorem dX0_tells_101 : decode cX0_tells 101 = .ok (.istore 5, 2) := dk_54 5 (dk_at dksX0_tells_4 5 rfl rfl)
theorem dX0_tells_103 : decode cX0_tells 103 = .ok (.iconst 1, 1) := dk_4 (dk_at dksX0_tells_4 7 rfl rfl)
theorem dX0_tells_104 : decode cX0_tells 104 = .ok (.istore 6, 2) := dk_54 6 (dk_at dksX0_tells_4 8 rfl rfl)
theorem dX0_tells_106 : decode cX0_tells 106 = .ok (.iload 6, 2) := dk_21 6 (dk_at dksX0_tells_4 10 rfl rfl)
theorem dX0_tells_108 : decode cX0_tells 108 = .ok (.bipush 30, 2) := dk_16 30 (dk_at dksX0_tells_4 12 rfl rfl)
theorem dX0_tells_110 : decode cX0_tells 110 = .ok (.if_icmp .gt 43, 3) := dk_163 0 43 (dk_at dksX0_tells_4 14 rfl rfl)
theorem dX0_tells_113 : decode cX0_tells 113 = .ok (.aload_n 3, 1) := dk_45 (dk_at dksX0_tells_4 17 rfl rfl)
theorem dX0_tells_114 : decode cX0_tells 114 = .ok (.iload 6, 2) := dk_21 6 (dk_at dksX0_tells_4 18 rfl rfl)
theorem dX0_tells_116 : decode cX0_tells 116 = .ok (.iaload, 1) := dk_46 (dk_at dksX0_tells_4 20 rfl rfl)
theorem dX0_tells_117 : decode cX0_tells 117 = .ok (.bipush 10, 2) := dk_16 10 (dk_at dksX0_tells_4 21 rfl rfl)
theorem dX0_tells_119 : decode cX0_tells 119 = .ok (.aload_n 3, 1) := dk_45 (dk_at dksX0_tells_4 23 rfl rfl)
theorem dX0_tells_120 : decode cX0_tells 120 = .ok (.iload 6, 2) := dk_21 6 (dk_at dksX0_tells_5 0 rfl rfl)
theorem dX0_tells_122 : decode cX0_tells 122 = .ok (.iaload, 1) := dk_46 (dk_at dksX0_tells_5 2 rfl rfl)
theorem dX0_tells_123 : decode cX0_tells 123 = .ok (.isub, 1) := dk_100 (dk_at dksX0_tells_5 3 rfl rfl)
theorem dX0_tells_124 : decode cX0_tells 124 = .ok (.invokestatic 320, 3) := dk_184 1 64 (dk_at dksX0_tells_5 4 rfl rfl)
theorem dX0_tells_127 : decode cX0_tells 127 = .ok (.istore 7, 2) := dk_54 7 (dk_at dksX0_tells_5 7 rfl rfl)
theorem dX0_tells_129 : decode cX0_tells 129 = .ok (.iload 7, 2) := dk_21 7 (dk_at dksX0_tells_5 9 rfl rfl)
theorem dX0_tells_131 : decode cX0_tells 131 = .ok (.iload 5, 2) := dk_21 5 (dk_at dksX0_tells_5 11 rfl rfl)
theorem dX0_tells_133 : decode cX0_tells 133 = .ok (.if_icmp .lt 6, 3) := dk_161 0 6 (dk_at dksX0_tells_5 13 rfl rfl)
theorem dX0_tells_136 : decode cX0_tells 136 = .ok (.goto 11, 3) := dk_167 0 11 (dk_at dksX0_tells_5 16 rfl rfl)
theorem dX0_tells_139 : decode cX0_tells 139 = .ok (.iload 7, 2) := dk_21 7 (dk_at dksX0_tells_5 19 rfl rfl)
theorem dX0_tells_141 : decode cX0_tells 141 = .ok (.istore 5, 2) := dk_54 5 (dk_at dksX0_tells_5 21 rfl rfl)
theorem dX0_tells_143 : decode cX0_tells 143 = .ok (.iload 6, 2) := dk_21 6 (dk_at dksX0_tells_6 0 rfl rfl)
theorem dX0_tells_145 : decode cX0_tells 145 = .ok (.istore 4, 2) := dk_54 4 (dk_at dksX0_tells_6 2 rfl rfl)
theorem dX0_tells_147 : decode cX0_tells 147 = .ok (.iinc 6 1, 3) := dk_132 6 1 (dk_at dksX0_tells_6 4 rfl rfl)
theorem dX0_tells_150 : decode cX0_tells 150 = .ok (.goto (-44), 3) := dk_167 255 212 (dk_at dksX0_tells_6 7 rfl rfl)
theorem dX0_tells_153 : decode cX0_tells 153 = .ok (.iload_n 2, 1) := dk_28 (dk_at dksX0_tells_6 10 rfl rfl)
theorem dX0_tells_154 : decode cX0_tells 154 = .ok (.ifCond .ne 8, 3) := dk_154 0 8 (dk_at dksX0_tells_6 11 rfl rfl)
theorem dX0_tells_157 : decode cX0_tells 157 = .ok (.iload 4, 2) := dk_21 4 (dk_at dksX0_tells_6 14 rfl rfl)
theorem dX0_tells_159 : decode cX0_tells 159 = .ok (.goto 5, 3) := dk_167 0 5 (dk_at dksX0_tells_6 16 rfl rfl)
theorem dX0_tells_162 : decode cX0_tells 162 = .ok (.iload 5, 2) := dk_21 5 (dk_at dksX0_tells_6 19 rfl rfl)
theorem dX0_tells_164 : decode cX0_tells 164 = .ok (.ireturn, 1) := dk_172 (dk_at dksX0_tells_6 21 rfl rfl)
abbrev cX0_undo : ByteArray := prog_1_method_49_code
def yX0_undo : MethodName := ⟨RX0, "undo", "()Z"⟩
def dkwX0_undo_2 : List UInt8 := [87, 4, 172]
abbrev dktX0_undo_2 : List UInt8 := dkwX0_undo_2 ++ []
def dkwX0_undo_1 : List UInt8 := [180, 0, 128, 4, 100, 181, 0, 128, 42, 180, 0, 71, 42, 180, 0, 84, 42, 180, 0, 128, 50, 182, 1, 21]
abbrev dktX0_undo_1 : List UInt8 := dkwX0_undo_1 ++ dktX0_undo_2
def dkwX0_undo_0 : List UInt8 := [42, 180, 0, 128, 154, 0, 17, 42, 7, 182, 0, 101, 155, 0, 7, 4, 167, 0, 4, 3, 172, 42, 89]
abbrev dktX0_undo_0 : List UInt8 := dkwX0_undo_0 ++ dktX0_undo_1
theorem dksX0_undo_0 : cX0_undo.data.toList.drop 0 = dktX0_undo_0 := by decide +kernel
theorem dksX0_undo_1 : cX0_undo.data.toList.drop 23 = dktX0_undo_1 := dk_seg dksX0_undo_0 23 rfl rfl
theorem dksX0_undo_2 : cX0_undo.data.toList.drop 47 = dktX0_undo_2 := dk_seg dksX0_undo_1 24 rfl rfl
theorem dX0_undo_0 : decode cX0_undo 0 = .ok (.aload_n 0, 1) := dk_42 (dk_at dksX0_undo_0 0 rfl rfl)
theorem dX0_undo_1 : decode cX0_undo 1 = .ok (.getfield 128, 3) := dk_180 0 128 (dk_at dksX0_undo_0 1 rfl rfl)
theorem dX0_undo_4 : decode cX0_undo 4 = .ok (.ifCond .ne 17, 3) := dk_154 0 17 (dk_at dksX0_undo_0 4 rfl rfl)
theorem dX0_undo_7 : decode cX0_undo 7 = .ok (.aload_n 0, 1) := dk_42 (dk_at dksX0_undo_0 7 rfl rfl)
theorem dX0_undo_8 : decode cX0_undo 8 = .ok (.iconst 4, 1) := dk_7 (dk_at dksX0_undo_0 8 rfl rfl)
theorem dX0_undo_9 : decode cX0_undo 9 = .ok (.invokevirtual 101, 3) := dk_182 0 101 (dk_at dksX0_undo_0 9 rfl rfl)
theorem dX0_undo_12 : decode cX0_undo 12 = .ok (.ifCond .lt 7, 3) := dk_155 0 7 (dk_at dksX0_undo_0 12 rfl rfl)
theorem dX0_undo_15 : decode cX0_undo 15 = .ok (.iconst 1, 1) := dk_4 (dk_at dksX0_undo_0 15 rfl rfl)
theorem dX0_undo_16 : decode cX0_undo 16 = .ok (.goto 4, 3) := dk_167 0 4 (dk_at dksX0_undo_0 16 rfl rfl)
theorem dX0_undo_19 : decode cX0_undo 19 = .ok (.iconst 0, 1) := dk_3 (dk_at dksX0_undo_0 19 rfl rfl)
theorem dX0_undo_20 : decode cX0_undo 20 = .ok (.ireturn, 1) := dk_172 (dk_at dksX0_undo_0 20 rfl rfl)
theorem dX0_undo_21 : decode cX0_undo 21 = .ok (.aload_n 0, 1) := dk_42 (dk_at dksX0_undo_0 21 rfl rfl)
theorem dX0_undo_22 : decode cX0_undo 22 = .ok (.dup, 1) := dk_89 (dk_at dksX0_undo_0 22 rfl rfl)
theorem dX0_undo_23 : decode cX0_undo 23 = .ok (.getfield 128, 3) := dk_180 0 128 (dk_at dksX0_undo_1 0 rfl rfl)
theorem dX0_undo_26 : decode cX0_undo 26 = .ok (.iconst 1, 1) := dk_4 (dk_at dksX0_undo_1 3 rfl rfl)
theorem dX0_undo_27 : decode cX0_undo 27 = .ok (.isub, 1) := dk_100 (dk_at dksX0_undo_1 4 rfl rfl)
theorem dX0_undo_28 : decode cX0_undo 28 = .ok (.putfield 128, 3) := dk_181 0 128 (dk_at dksX0_undo_1 5 rfl rfl)
theorem dX0_undo_31 : decode cX0_undo 31 = .ok (.aload_n 0, 1) := dk_42 (dk_at dksX0_undo_1 8 rfl rfl)
theorem dX0_undo_32 : decode cX0_undo 32 = .ok (.getfield 71, 3) := dk_180 0 71 (dk_at dksX0_undo_1 9 rfl rfl)
theorem dX0_undo_35 : decode cX0_undo 35 = .ok (.aload_n 0, 1) := dk_42 (dk_at dksX0_undo_1 12 rfl rfl)
theorem dX0_undo_36 : decode cX0_undo 36 = .ok (.getfield 84, 3) := dk_180 0 84 (dk_at dksX0_undo_1 13 rfl rfl)
theorem dX0_undo_39 : decode cX0_undo 39 = .ok (.aload_n 0, 1) := dk_42 (dk_at dksX0_undo_1 16 rfl rfl)
theorem dX0_undo_40 : decode cX0_undo 40 = .ok (.getfield 128, 3) := dk_180 0 128 (dk_at dksX0_undo_1 17 rfl rfl)
theorem dX0_undo_43 : decode cX0_undo 43 = .ok (.aaload, 1) := dk_50 (dk_at dksX0_undo_1 20 rfl rfl)
theorem dX0_undo_44 : decode cX0_undo 44 = .ok (.invokevirtual 277, 3) := dk_182 1 21 (dk_at dksX0_undo_1 21 rfl rfl)
theorem dX0_undo_47 : decode cX0_undo 47 = .ok (.pop, 1) := dk_87 (dk_at dksX0_undo_2 0 rfl rfl)
theorem dX0_undo_48 : decode cX0_undo 48 = .ok (.iconst 1, 1) := dk_4 (dk_at dksX0_undo_2 1 rfl rfl)
theorem dX0_undo_49 : decode cX0_undo 49 = .ok (.ireturn, 1) := dk_172 (dk_at dksX0_undo_2 2 rfl rfl)
abbrev cX0_strike : ByteArray := prog_1_method_50_code
def yX0_strike : MethodName := ⟨RX0, "strike", "(I)Z"⟩
def dkwX0_strike_2 : List UInt8 := [4, 172]
abbrev dktX0_strike_2 : List UInt8 := dkwX0_strike_2 ++ []
def dkwX0_strike_1 : List UInt8 := [182, 0, 101, 155, 0, 7, 4, 167, 0, 4, 3, 172, 42, 182, 1, 66, 42, 180, 0, 71, 27, 182, 1, 34]
abbrev dktX0_strike_1 : List UInt8 := dkwX0_strike_1 ++ dktX0_strike_2
def dkwX0_strike_0 : List UInt8 := [42, 27, 182, 0, 209, 153, 0, 16, 42, 180, 0, 71, 180, 0, 216, 27, 46, 4, 160, 0, 17, 42, 5]
abbrev dktX0_strike_0 : List UInt8 := dkwX0_strike_0 ++ dktX0_strike_1
theorem dksX0_strike_0 : cX0_strike.data.toList.drop 0 = dktX0_strike_0 := by decide +kernel
theorem dksX0_strike_1 : cX0_strike.data.toList.drop 23 = dktX0_strike_1 := dk_seg dksX0_strike_0 23 rfl rfl
theorem dksX0_strike_2 : cX0_strike.data.toList.drop 47 = dktX0_strike_2 := dk_seg dksX0_strike_1 24 rfl rfl
theorem dX0_strike_0 : decode cX0_strike 0 = .ok (.aload_n 0, 1) := dk_42 (dk_at dksX0_strike_0 0 rfl rfl)
theorem dX0_strike_1 : decode cX0_strike 1 = .ok (.iload_n 1, 1) := dk_27 (dk_at dksX0_strike_0 1 rfl rfl)
theorem dX0_strike_2 : decode cX0_strike 2 = .ok (.invokevirtual 209, 3) := dk_182 0 209 (dk_at dksX0_strike_0 2 rfl rfl)
theorem dX0_strike_5 : decode cX0_strike 5 = .ok (.ifCond .eq 16, 3) := dk_153 0 16 (dk_at dksX0_strike_0 5 rfl rfl)
theorem dX0_strike_8 : decode cX0_strike 8 = .ok (.aload_n 0, 1) := dk_42 (dk_at dksX0_strike_0 8 rfl rfl)
theorem dX0_strike_9 : decode cX0_strike 9 = .ok (.getfield 71, 3) := dk_180 0 71 (dk_at dksX0_strike_0 9 rfl rfl)
theorem dX0_strike_12 : decode cX0_strike 12 = .ok (.getfield 216, 3) := dk_180 0 216 (dk_at dksX0_strike_0 12 rfl rfl)
theorem dX0_strike_15 : decode cX0_strike 15 = .ok (.iload_n 1, 1) := dk_27 (dk_at dksX0_strike_0 15 rfl rfl)
theorem dX0_strike_16 : decode cX0_strike 16 = .ok (.iaload, 1) := dk_46 (dk_at dksX0_strike_0 16 rfl rfl)
theorem dX0_strike_17 : decode cX0_strike 17 = .ok (.iconst 1, 1) := dk_4 (dk_at dksX0_strike_0 17 rfl rfl)
theorem dX0_strike_18 : decode cX0_strike 18 = .ok (.if_icmp .ne 17, 3) := dk_160 0 17 (dk_at dksX0_strike_0 18 rfl rfl)
theorem dX0_strike_21 : decode cX0_strike 21 = .ok (.aload_n 0, 1) := dk_42 (dk_at dksX0_strike_0 21 rfl rfl)
theorem dX0_strike_22 : decode cX0_strike 22 = .ok (.iconst 2, 1) := dk_5 (dk_at dksX0_strike_0 22 rfl rfl)
theorem dX0_strike_23 : decode cX0_strike 23 = .ok (.invokevirtual 101, 3) := dk_182 0 101 (dk_at dksX0_strike_1 0 rfl rfl)
theorem dX0_strike_26 : decode cX0_strike 26 = .ok (.ifCond .lt 7, 3) := dk_155 0 7 (dk_at dksX0_strike_1 3 rfl rfl)
theorem dX0_strike_29 : decode cX0_strike 29 = .ok (.iconst 1, 1) := dk_4 (dk_at dksX0_strike_1 6 rfl rfl)
theorem dX0_strike_30 : decode cX0_strike 30 = .ok (.goto 4, 3) := dk_167 0 4 (dk_at dksX0_strike_1 7 rfl rfl)
theorem dX0_strike_33 : decode cX0_strike 33 = .ok (.iconst 0, 1) := dk_3 (dk_at dksX0_strike_1 10 rfl rfl)
theorem dX0_strike_34 : decode cX0_strike 34 = .ok (.ireturn, 1) := dk_172 (dk_at dksX0_strike_1 11 rfl rfl)
theorem dX0_strike_35 : decode cX0_strike 35 = .ok (.aload_n 0, 1) := dk_42 (dk_at dksX0_strike_1 12 rfl rfl)
theorem dX0_strike_36 : decode cX0_strike 36 = .ok (.invokevirtual 322, 3) := dk_182 1 66 (dk_at dksX0_strike_1 13 rfl rfl)
theorem dX0_strike_39 : decode cX0_strike 39 = .ok (.aload_n 0, 1) := dk_42 (dk_at dksX0_strike_1 16 rfl rfl)
theorem dX0_strike_40 : decode cX0_strike 40 = .ok (.getfield 71, 3) := dk_180 0 71 (dk_at dksX0_strike_1 17 rfl rfl)
theorem dX0_strike_43 : decode cX0_strike 43 = .ok (.iload_n 1, 1) := dk_27 (dk_at dksX0_strike_1 20 rfl rfl)
theorem dX0_strike_44 : decode cX0_strike 44 = .ok (.invokevirtual 290, 3) := dk_182 1 34 (dk_at dksX0_strike_1 21 rfl rfl)
theorem dX0_strike_47 : decode cX0_strike 47 = .ok (.iconst 1, 1) := dk_4 (dk_at dksX0_strike_2 0 rfl rfl)
theorem dX0_strike_48 : decode cX0_strike 48 = .ok (.ireturn, 1) := dk_172 (dk_at dksX0_strike_2 1 rfl rfl)
abbrev cX0_keeps : ByteArray := prog_1_method_48_code
def yX0_keeps : MethodName := ⟨RX0, "keeps", "()V"⟩
def dkwX0_keeps_3 : List UInt8 := [180, 0, 71, 182, 1, 21, 87, 42, 89, 180, 0, 128, 4, 96, 181, 0, 128, 177]
abbrev dktX0_keeps_3 : List UInt8 := dkwX0_keeps_3 ++ []
def dkwX0_keeps_2 : List UInt8 := [16, 19, 43, 83, 42, 89, 180, 0, 128, 4, 100, 181, 0, 128, 42, 180, 0, 84, 42, 180, 0, 128, 50, 42]
abbrev dktX0_keeps_2 : List UInt8 := dkwX0_keeps_2 ++ dktX0_keeps_3
def dkwX0_keeps_1 : List UInt8 := [42, 180, 0, 84, 28, 4, 100, 42, 180, 0, 84, 28, 50, 83, 132, 2, 1, 167, 255, 233, 42, 180, 0, 84]
abbrev dktX0_keeps_1 : List UInt8 := dkwX0_keeps_1 ++ dktX0_keeps_2
def dkwX0_keeps_0 : List UInt8 := [42, 180, 0, 128, 16, 20, 160, 0, 56, 42, 180, 0, 84, 3, 50, 76, 4, 61, 28, 16, 20, 162, 0, 23]
abbrev dktX0_keeps_0 : List UInt8 := dkwX0_keeps_0 ++ dktX0_keeps_1
theorem dksX0_keeps_0 : cX0_keeps.data.toList.drop 0 = dktX0_keeps_0 := by decide +kernel
theorem dksX0_keeps_1 : cX0_keeps.data.toList.drop 24 = dktX0_keeps_1 := dk_seg dksX0_keeps_0 24 rfl rfl
theorem dksX0_keeps_2 : cX0_keeps.data.toList.drop 48 = dktX0_keeps_2 := dk_seg dksX0_keeps_1 24 rfl rfl
theorem dksX0_keeps_3 : cX0_keeps.data.toList.drop 72 = dktX0_keeps_3 := dk_seg dksX0_keeps_2 24 rfl rfl
theorem dX0_keeps_0 : decode cX0_keeps 0 = .ok (.aload_n 0, 1) := dk_42 (dk_at dksX0_keeps_0 0 rfl rfl)
theorem dX0_keeps_1 : decode cX0_keeps 1 = .ok (.getfield 128, 3) := dk_180 0 128 (dk_at dksX0_keeps_0 1 rfl rfl)
theorem dX0_keeps_4 : decode cX0_keeps 4 = .ok (.bipush 20, 2) := dk_16 20 (dk_at dksX0_keeps_0 4 rfl rfl)
theorem dX0_keeps_6 : decode cX0_keeps 6 = .ok (.if_icmp .ne 56, 3) := dk_160 0 56 (dk_at dksX0_keeps_0 6 rfl rfl)
theorem dX0_keeps_9 : decode cX0_keeps 9 = .ok (.aload_n 0, 1) := dk_42 (dk_at dksX0_keeps_0 9 rfl rfl)
theorem dX0_keeps_10 : decode cX0_keeps 10 = .ok (.getfield 84, 3) := dk_180 0 84 (dk_at dksX0_keeps_0 10 rfl rfl)
theorem dX0_keeps_13 : decode cX0_keeps 13 = .ok (.iconst 0, 1) := dk_3 (dk_at dksX0_keeps_0 13 rfl rfl)
theorem dX0_keeps_14 : decode cX0_keeps 14 = .ok (.aaload, 1) := dk_50 (dk_at dksX0_keeps_0 14 rfl rfl)
theorem dX0_keeps_15 : decode cX0_keeps 15 = .ok (.astore_n 1, 1) := dk_76 (dk_at dksX0_keeps_0 15 rfl rfl)
theorem dX0_keeps_16 : decode cX0_keeps 16 = .ok (.iconst 1, 1) := dk_4 (dk_at dksX0_keeps_0 16 rfl rfl)
theorem dX0_keeps_17 : decode cX0_keeps 17 = .ok (.istore_n 2, 1) := dk_61 (dk_at dksX0_keeps_0 17 rfl rfl)
theorem dX0_keeps_18 : decode cX0_keeps 18 = .ok (.iload_n 2, 1) := dk_28 (dk_at dksX0_keeps_0 18 rfl rfl)
theorem dX0_keeps_19 : decode cX0_keeps 19 = .ok (.bipush 20, 2) := dk_16 20 (dk_at dksX0_keeps_0 19 rfl rfl)
theorem dX0_keeps_21 : decode cX0_keeps 21 = .ok (.if_icmp .ge 23, 3) := dk_162 0 23 (dk_at dksX0_keeps_0 21 rfl rfl)
theorem dX0_keeps_24 : decode cX0_keeps 24 = .ok (.aload_n 0, 1) := dk_42 (dk_at dksX0_keeps_1 0 rfl rfl)
theorem dX0_keeps_25 : decode cX0_keeps 25 = .ok (.getfield 84, 3) := dk_180 0 84 (dk_at dksX0_keeps_1 1 rfl rfl)
theorem dX0_keeps_28 : decode cX0_keeps 28 = .ok (.iload_n 2, 1) := dk_28 (dk_at dksX0_keeps_1 4 rfl rfl)
theorem dX0_keeps_29 : decode cX0_keeps 29 = .ok (.iconst 1, 1) := dk_4 (dk_at dksX0_keeps_1 5 rfl rfl)
theorem dX0_keeps_30 : decode cX0_keeps 30 = .ok (.isub, 1) := dk_100 (dk_at dksX0_keeps_1 6 rfl rfl)
theorem dX0_keeps_31 : decode cX0_keeps 31 = .ok (.aload_n 0, 1) := dk_42 (dk_at dksX0_keeps_1 7 rfl rfl)
theorem dX0_keeps_32 : decode cX0_keeps 32 = .ok (.getfield 84, 3) := dk_180 0 84 (dk_at dksX0_keeps_1 8 rfl rfl)
theorem dX0_keeps_35 : decode cX0_keeps 35 = .ok (.iload_n 2, 1) := dk_28 (dk_at dksX0_keeps_1 11 rfl rfl)
theorem dX0_keeps_36 : decode cX0_keeps 36 = .ok (.aaload, 1) := dk_50 (dk_at dksX0_keeps_1 12 rfl rfl)
theorem dX0_keeps_37 : decode cX0_keeps 37 = .ok (.aastore, 1) := dk_83 (dk_at dksX0_keeps_1 13 rfl rfl)
theorem dX0_keeps_38 : decode cX0_keeps 38 = .ok (.iinc 2 1, 3) := dk_132 2 1 (dk_at dksX0_keeps_1 14 rfl rfl)
theorem dX0_keeps_41 : decode cX0_keeps 41 = .ok (.goto (-23), 3) := dk_167 255 233 (dk_at dksX0_keeps_1 17 rfl rfl)
theorem dX0_keeps_44 : decode cX0_keeps 44 = .ok (.aload_n 0, 1) := dk_42 (dk_at dksX0_keeps_1 20 rfl rfl)
theorem dX0_keeps_45 : decode cX0_keeps 45 = .ok (.getfield 84, 3) := dk_180 0 84 (dk_at dksX0_keeps_1 21 rfl rfl)
theorem dX0_keeps_48 : decode cX0_keeps 48 = .ok (.bipush 19, 2) := dk_16 19 (dk_at dksX0_keeps_2 0 rfl rfl)
theorem dX0_keeps_50 : decode cX0_keeps 50 = .ok (.aload_n 1, 1) := dk_43 (dk_at dksX0_keeps_2 2 rfl rfl)
theorem dX0_keeps_51 : decode cX0_keeps 51 = .ok (.aastore, 1) := dk_83 (dk_at dksX0_keeps_2 3 rfl rfl)
theorem dX0_keeps_52 : decode cX0_keeps 52 = .ok (.aload_n 0, 1) := dk_42 (dk_at dksX0_keeps_2 4 rfl rfl)
theorem dX0_keeps_53 : decode cX0_keeps 53 = .ok (.dup, 1) := dk_89 (dk_at dksX0_keeps_2 5 rfl rfl)
theorem dX0_keeps_54 : decode cX0_keeps 54 = .ok (.getfield 128, 3) := dk_180 0 128 (dk_at dksX0_keeps_2 6 rfl rfl)
theorem dX0_keeps_57 : decode cX0_keeps 57 = .ok (.iconst 1, 1) := dk_4 (dk_at dksX0_keeps_2 9 rfl rfl)
theorem dX0_keeps_58 : decode cX0_keeps 58 = .ok (.isub, 1) := dk_100 (dk_at dksX0_keeps_2 10 rfl rfl)
theorem dX0_keeps_59 : decode cX0_keeps 59 = .ok (.putfield 128, 3) := dk_181 0 128 (dk_at dksX0_keeps_2 11 rfl rfl)
theorem dX0_keeps_62 : decode cX0_keeps 62 = .ok (.aload_n 0, 1) := dk_42 (dk_at dksX0_keeps_2 14 rfl rfl)
theorem dX0_keeps_63 : decode cX0_keeps 63 = .ok (.getfield 84, 3) := dk_180 0 84 (dk_at dksX0_keeps_2 15 rfl rfl)
theorem dX0_keeps_66 : decode cX0_keeps 66 = .ok (.aload_n 0, 1) := dk_42 (dk_at dksX0_keeps_2 18 rfl rfl)
theorem dX0_keeps_67 : decode cX0_keeps 67 = .ok (.getfield 128, 3) := dk_180 0 128 (dk_at dksX0_keeps_2 19 rfl rfl)
theorem dX0_keeps_70 : decode cX0_keeps 70 = .ok (.aaload, 1) := dk_50 (dk_at dksX0_keeps_2 22 rfl rfl)
theorem dX0_keeps_71 : decode cX0_keeps 71 = .ok (.aload_n 0, 1) := dk_42 (dk_at dksX0_keeps_2 23 rfl rfl)
theorem dX0_keeps_72 : decode cX0_keeps 72 = .ok (.getfield 71, 3) := dk_180 0 71 (dk_at dksX0_keeps_3 0 rfl rfl)
theorem dX0_keeps_75 : decode cX0_keeps 75 = .ok (.invokevirtual 277, 3) := dk_182 1 21 (dk_at dksX0_keeps_3 3 rfl rfl)
theorem dX0_keeps_78 : decode cX0_keeps 78 = .ok (.pop, 1) := dk_87 (dk_at dksX0_keeps_3 6 rfl rfl)
theorem dX0_keeps_79 : decode cX0_keeps 79 = .ok (.aload_n 0, 1) := dk_42 (dk_at dksX0_keeps_3 7 rfl rfl)
theorem dX0_keeps_80 : decode cX0_keeps 80 = .ok (.dup, 1) := dk_89 (dk_at dksX0_keeps_3 8 rfl rfl)
theorem dX0_keeps_81 : decode cX0_keeps 81 = .ok (.getfield 128, 3) := dk_180 0 128 (dk_at dksX0_keeps_3 9 rfl rfl)
theorem dX0_keeps_84 : decode cX0_keeps 84 = .ok (.iconst 1, 1) := dk_4 (dk_at dksX0_keeps_3 12 rfl rfl)
theorem dX0_keeps_85 : decode cX0_keeps 85 = .ok (.iadd, 1) := dk_96 (dk_at dksX0_keeps_3 13 rfl rfl)
theorem dX0_keeps_86 : decode cX0_keeps 86 = .ok (.putfield 128, 3) := dk_181 0 128 (dk_at dksX0_keeps_3 14 rfl rfl)
theorem dX0_keeps_89 : decode cX0_keeps 89 = .ok (.return_, 1) := dk_177 (dk_at dksX0_keeps_3 17 rfl rfl)
abbrev cX0_mend : ByteArray := prog_1_method_51_code
def yX0_mend : MethodName := ⟨RX0, "mend", "(II)I"⟩
def dkwX0_mend_2 : List UInt8 := [42, 180, 0, 71, 180, 0, 224, 27, 46, 172]
abbrev dktX0_mend_2 : List UInt8 := dkwX0_mend_2 ++ []
def dkwX0_mend_1 : List UInt8 := [46, 4, 159, 0, 9, 42, 5, 182, 0, 101, 172, 42, 182, 1, 66, 42, 180, 0, 71, 27, 28, 182, 1, 36]
abbrev dktX0_mend_1 : List UInt8 := dkwX0_mend_1 ++ dktX0_mend_2
def dkwX0_mend_0 : List UInt8 := [42, 27, 182, 0, 209, 153, 0, 24, 42, 28, 182, 0, 234, 153, 0, 16, 42, 180, 0, 71, 180, 0, 216, 27]
abbrev dktX0_mend_0 : List UInt8 := dkwX0_mend_0 ++ dktX0_mend_1
theorem dksX0_mend_0 : cX0_mend.data.toList.drop 0 = dktX0_mend_0 := by decide +kernel
theorem dksX0_mend_1 : cX0_mend.data.toList.drop 24 = dktX0_mend_1 := dk_seg dksX0_mend_0 24 rfl rfl
theorem dksX0_mend_2 : cX0_mend.data.toList.drop 48 = dktX0_mend_2 := dk_seg dksX0_mend_1 24 rfl rfl
theorem dX0_mend_0 : decode cX0_mend 0 = .ok (.aload_n 0, 1) := dk_42 (dk_at dksX0_mend_0 0 rfl rfl)
theorem dX0_mend_1 : decode cX0_mend 1 = .ok (.iload_n 1, 1) := dk_27 (dk_at dksX0_mend_0 1 rfl rfl)
theorem dX0_mend_2 : decode cX0_mend 2 = .ok (.invokevirtual 209, 3) := dk_182 0 209 (dk_at dksX0_mend_0 2 rfl rfl)
theorem dX0_mend_5 : decode cX0_mend 5 = .ok (.ifCond .eq 24, 3) := dk_153 0 24 (dk_at dksX0_mend_0 5 rfl rfl)
theorem dX0_mend_8 : decode cX0_mend 8 = .ok (.aload_n 0, 1) := dk_42 (dk_at dksX0_mend_0 8 rfl rfl)
theorem dX0_mend_9 : decode cX0_mend 9 = .ok (.iload_n 2, 1) := dk_28 (dk_at dksX0_mend_0 9 rfl rfl)
theorem dX0_mend_10 : decode cX0_mend 10 = .ok (.invokevirtual 234, 3) := dk_182 0 234 (dk_at dksX0_mend_0 10 rfl rfl)
theorem dX0_mend_13 : decode cX0_mend 13 = .ok (.ifCond .eq 16, 3) := dk_153 0 16 (dk_at dksX0_mend_0 13 rfl rfl)
theorem dX0_mend_16 : decode cX0_mend 16 = .ok (.aload_n 0, 1) := dk_42 (dk_at dksX0_mend_0 16 rfl rfl)
theorem dX0_mend_17 : decode cX0_mend 17 = .ok (.getfield 71, 3) := dk_180 0 71 (dk_at dksX0_mend_0 17 rfl rfl)
theorem dX0_mend_20 : decode cX0_mend 20 = .ok (.getfield 216, 3) := dk_180 0 216 (dk_at dksX0_mend_0 20 rfl rfl)
theorem dX0_mend_23 : decode cX0_mend 23 = .ok (.iload_n 1, 1) := dk_27 (dk_at dksX0_mend_0 23 rfl rfl)
theorem dX0_mend_24 : decode cX0_mend 24 = .ok (.iaload, 1) := dk_46 (dk_at dksX0_mend_1 0 rfl rfl)
theorem dX0_mend_25 : decode cX0_mend 25 = .ok (.iconst 1, 1) := dk_4 (dk_at dksX0_mend_1 1 rfl rfl)
theorem dX0_mend_26 : decode cX0_mend 26 = .ok (.if_icmp .eq 9, 3) := dk_159 0 9 (dk_at dksX0_mend_1 2 rfl rfl)
theorem dX0_mend_29 : decode cX0_mend 29 = .ok (.aload_n 0, 1) := dk_42 (dk_at dksX0_mend_1 5 rfl rfl)
theorem dX0_mend_30 : decode cX0_mend 30 = .ok (.iconst 2, 1) := dk_5 (dk_at dksX0_mend_1 6 rfl rfl)
theorem dX0_mend_31 : decode cX0_mend 31 = .ok (.invokevirtual 101, 3) := dk_182 0 101 (dk_at dksX0_mend_1 7 rfl rfl)
theorem dX0_mend_34 : decode cX0_mend 34 = .ok (.ireturn, 1) := dk_172 (dk_at dksX0_mend_1 10 rfl rfl)
theorem dX0_mend_35 : decode cX0_mend 35 = .ok (.aload_n 0, 1) := dk_42 (dk_at dksX0_mend_1 11 rfl rfl)
theorem dX0_mend_36 : decode cX0_mend 36 = .ok (.invokevirtual 322, 3) := dk_182 1 66 (dk_at dksX0_mend_1 12 rfl rfl)
theorem dX0_mend_39 : decode cX0_mend 39 = .ok (.aload_n 0, 1) := dk_42 (dk_at dksX0_mend_1 15 rfl rfl)
theorem dX0_mend_40 : decode cX0_mend 40 = .ok (.getfield 71, 3) := dk_180 0 71 (dk_at dksX0_mend_1 16 rfl rfl)
theorem dX0_mend_43 : decode cX0_mend 43 = .ok (.iload_n 1, 1) := dk_27 (dk_at dksX0_mend_1 19 rfl rfl)
theorem dX0_mend_44 : decode cX0_mend 44 = .ok (.iload_n 2, 1) := dk_28 (dk_at dksX0_mend_1 20 rfl rfl)
theorem dX0_mend_45 : decode cX0_mend 45 = .ok (.invokevirtual 292, 3) := dk_182 1 36 (dk_at dksX0_mend_1 21 rfl rfl)
theorem dX0_mend_48 : decode cX0_mend 48 = .ok (.aload_n 0, 1) := dk_42 (dk_at dksX0_mend_2 0 rfl rfl)
theorem dX0_mend_49 : decode cX0_mend 49 = .ok (.getfield 71, 3) := dk_180 0 71 (dk_at dksX0_mend_2 1 rfl rfl)
theorem dX0_mend_52 : decode cX0_mend 52 = .ok (.getfield 224, 3) := dk_180 0 224 (dk_at dksX0_mend_2 4 rfl rfl)
theorem dX0_mend_55 : decode cX0_mend 55 = .ok (.iload_n 1, 1) := dk_27 (dk_at dksX0_mend_2 7 rfl rfl)
theorem dX0_mend_56 : decode cX0_mend 56 = .ok (.iaload, 1) := dk_46 (dk_at dksX0_mend_2 8 rfl rfl)
theorem dX0_mend_57 : decode cX0_mend 57 = .ok (.ireturn, 1) := dk_172 (dk_at dksX0_mend_2 9 rfl rfl)
abbrev cX0_forge : ByteArray := prog_1_method_52_code
def yX0_forge : MethodName := ⟨RX0, "forge", "(I)Z"⟩
def dkwX0_forge_3 : List UInt8 := [172]
abbrev dktX0_forge_3 : List UInt8 := dkwX0_forge_3 ++ []
def dkwX0_forge_2 : List UInt8 := [5, 79, 42, 180, 0, 71, 180, 0, 224, 27, 16, 50, 79, 42, 180, 0, 71, 180, 0, 227, 27, 4, 84, 4]
abbrev dktX0_forge_2 : List UInt8 := dkwX0_forge_2 ++ dktX0_forge_3
def dkwX0_forge_1 : List UInt8 := [182, 0, 101, 155, 0, 7, 4, 167, 0, 4, 3, 172, 42, 182, 1, 66, 42, 180, 0, 71, 180, 0, 216, 27]
abbrev dktX0_forge_1 : List UInt8 := dkwX0_forge_1 ++ dktX0_forge_2
def dkwX0_forge_0 : List UInt8 := [42, 27, 182, 0, 209, 153, 0, 15, 42, 180, 0, 71, 180, 0, 216, 27, 46, 153, 0, 17, 42, 5]
abbrev dktX0_forge_0 : List UInt8 := dkwX0_forge_0 ++ dktX0_forge_1
theorem dksX0_forge_0 : cX0_forge.data.toList.drop 0 = dktX0_forge_0 := by decide +kernel
theorem dksX0_forge_1 : cX0_forge.data.toList.drop 22 = dktX0_forge_1 := dk_seg dksX0_forge_0 22 rfl rfl
theorem dksX0_forge_2 : cX0_forge.data.toList.drop 46 = dktX0_forge_2 := dk_seg dksX0_forge_1 24 rfl rfl
theorem dksX0_forge_3 : cX0_forge.data.toList.drop 70 = dktX0_forge_3 := dk_seg dksX0_forge_2 24 rfl rfl
theorem dX0_forge_0 : decode cX0_forge 0 = .ok (.aload_n 0, 1) := dk_42 (dk_at dksX0_forge_0 0 rfl rfl)
theorem dX0_forge_1 : decode cX0_forge 1 = .ok (.iload_n 1, 1) := dk_27 (dk_at dksX0_forge_0 1 rfl rfl)
theorem dX0_forge_2 : decode cX0_forge 2 = .ok (.invokevirtual 209, 3) := dk_182 0 209 (dk_at dksX0_forge_0 2 rfl rfl)
theorem dX0_forge_5 : decode cX0_forge 5 = .ok (.ifCond .eq 15, 3) := dk_153 0 15 (dk_at dksX0_forge_0 5 rfl rfl)
theorem dX0_forge_8 : decode cX0_forge 8 = .ok (.aload_n 0, 1) := dk_42 (dk_at dksX0_forge_0 8 rfl rfl)
theorem dX0_forge_9 : decode cX0_forge 9 = .ok (.getfield 71, 3) := dk_180 0 71 (dk_at dksX0_forge_0 9 rfl rfl)
theorem dX0_forge_12 : decode cX0_forge 12 = .ok (.getfield 216, 3) := dk_180 0 216 (dk_at dksX0_forge_0 12 rfl rfl)
theorem dX0_forge_15 : decode cX0_forge 15 = .ok (.iload_n 1, 1) := dk_27 (dk_at dksX0_forge_0 15 rfl rfl)
theorem dX0_forge_16 : decode cX0_forge 16 = .ok (.iaload, 1) := dk_46 (dk_at dksX0_forge_0 16 rfl rfl)
theorem dX0_forge_17 : decode cX0_forge 17 = .ok (.ifCond .eq 17, 3) := dk_153 0 17 (dk_at dksX0_forge_0 17 rfl rfl)
theorem dX0_forge_20 : decode cX0_forge 20 = .ok (.aload_n 0, 1) := dk_42 (dk_at dksX0_forge_0 20 rfl rfl)
theorem dX0_forge_21 : decode cX0_forge 21 = .ok (.iconst 2, 1) := dk_5 (dk_at dksX0_forge_0 21 rfl rfl)
theorem dX0_forge_22 : decode cX0_forge 22 = .ok (.invokevirtual 101, 3) := dk_182 0 101 (dk_at dksX0_forge_1 0 rfl rfl)
theorem dX0_forge_25 : decode cX0_forge 25 = .ok (.ifCond .lt 7, 3) := dk_155 0 7 (dk_at dksX0_forge_1 3 rfl rfl)
theorem dX0_forge_28 : decode cX0_forge 28 = .ok (.iconst 1, 1) := dk_4 (dk_at dksX0_forge_1 6 rfl rfl)
theorem dX0_forge_29 : decode cX0_forge 29 = .ok (.goto 4, 3) := dk_167 0 4 (dk_at dksX0_forge_1 7 rfl rfl)
theorem dX0_forge_32 : decode cX0_forge 32 = .ok (.iconst 0, 1) := dk_3 (dk_at dksX0_forge_1 10 rfl rfl)
theorem dX0_forge_33 : decode cX0_forge 33 = .ok (.ireturn, 1) := dk_172 (dk_at dksX0_forge_1 11 rfl rfl)
theorem dX0_forge_34 : decode cX0_forge 34 = .ok (.aload_n 0, 1) := dk_42 (dk_at dksX0_forge_1 12 rfl rfl)
theorem dX0_forge_35 : decode cX0_forge 35 = .ok (.invokevirtual 322, 3) := dk_182 1 66 (dk_at dksX0_forge_1 13 rfl rfl)
theorem dX0_forge_38 : decode cX0_forge 38 = .ok (.aload_n 0, 1) := dk_42 (dk_at dksX0_forge_1 16 rfl rfl)
theorem dX0_forge_39 : decode cX0_forge 39 = .ok (.getfield 71, 3) := dk_180 0 71 (dk_at dksX0_forge_1 17 rfl rfl)
theorem dX0_forge_42 : decode cX0_forge 42 = .ok (.getfield 216, 3) := dk_180 0 216 (dk_at dksX0_forge_1 20 rfl rfl)
theorem dX0_forge_45 : decode cX0_forge 45 = .ok (.iload_n 1, 1) := dk_27 (dk_at dksX0_forge_1 23 rfl rfl)
theorem dX0_forge_46 : decode cX0_forge 46 = .ok (.iconst 2, 1) := dk_5 (dk_at dksX0_forge_2 0 rfl rfl)
theorem dX0_forge_47 : decode cX0_forge 47 = .ok (.iastore, 1) := dk_79 (dk_at dksX0_forge_2 1 rfl rfl)
theorem dX0_forge_48 : decode cX0_forge 48 = .ok (.aload_n 0, 1) := dk_42 (dk_at dksX0_forge_2 2 rfl rfl)
theorem dX0_forge_49 : decode cX0_forge 49 = .ok (.getfield 71, 3) := dk_180 0 71 (dk_at dksX0_forge_2 3 rfl rfl)
theorem dX0_forge_52 : decode cX0_forge 52 = .ok (.getfield 224, 3) := dk_180 0 224 (dk_at dksX0_forge_2 6 rfl rfl)
theorem dX0_forge_55 : decode cX0_forge 55 = .ok (.iload_n 1, 1) := dk_27 (dk_at dksX0_forge_2 9 rfl rfl)
theorem dX0_forge_56 : decode cX0_forge 56 = .ok (.bipush 50, 2) := dk_16 50 (dk_at dksX0_forge_2 10 rfl rfl)
theorem dX0_forge_58 : decode cX0_forge 58 = .ok (.iastore, 1) := dk_79 (dk_at dksX0_forge_2 12 rfl rfl)
theorem dX0_forge_59 : decode cX0_forge 59 = .ok (.aload_n 0, 1) := dk_42 (dk_at dksX0_forge_2 13 rfl rfl)
theorem dX0_forge_60 : decode cX0_forge 60 = .ok (.getfield 71, 3) := dk_180 0 71 (dk_at dksX0_forge_2 14 rfl rfl)
theorem dX0_forge_63 : decode cX0_forge 63 = .ok (.getfield 227, 3) := dk_180 0 227 (dk_at dksX0_forge_2 17 rfl rfl)
theorem dX0_forge_66 : decode cX0_forge 66 = .ok (.iload_n 1, 1) := dk_27 (dk_at dksX0_forge_2 20 rfl rfl)
theorem dX0_forge_67 : decode cX0_forge 67 = .ok (.iconst 1, 1) := dk_4 (dk_at dksX0_forge_2 21 rfl rfl)
theorem dX0_forge_68 : decode cX0_forge 68 = .ok (.bastore, 1) := dk_84 (dk_at dksX0_forge_2 22 rfl rfl)
theorem dX0_forge_69 : decode cX0_forge 69 = .ok (.iconst 1, 1) := dk_4 (dk_at dksX0_forge_2 23 rfl rfl)
theorem dX0_forge_70 : decode cX0_forge 70 = .ok (.ireturn, 1) := dk_172 (dk_at dksX0_forge_3 0 rfl rfl)
abbrev cX0_days : ByteArray := prog_1_method_53_code
def yX0_days : MethodName := ⟨RX0, "days", "(I)I"⟩
def dkwX0_days_1 : List UInt8 := [62, 29, 27, 162, 0, 19, 28, 42, 180, 0, 71, 182, 1, 25, 96, 61, 132, 3, 1, 167, 255, 238, 28, 172]
abbrev dktX0_days_1 : List UInt8 := dkwX0_days_1 ++ []
def dkwX0_days_0 : List UInt8 := [42, 27, 4, 16, 100, 182, 1, 18, 154, 0, 9, 42, 6, 182, 0, 101, 172, 42, 182, 1, 66, 3, 61, 3]
abbrev dktX0_days_0 : List UInt8 := dkwX0_days_0 ++ dktX0_days_1
theorem dksX0_days_0 : cX0_days.data.toList.drop 0 = dktX0_days_0 := by decide +kernel
theorem dksX0_days_1 : cX0_days.data.toList.drop 24 = dktX0_days_1 := dk_seg dksX0_days_0 24 rfl rfl
theorem dX0_days_0 : decode cX0_days 0 = .ok (.aload_n 0, 1) := dk_42 (dk_at dksX0_days_0 0 rfl rfl)
theorem dX0_days_1 : decode cX0_days 1 = .ok (.iload_n 1, 1) := dk_27 (dk_at dksX0_days_0 1 rfl rfl)
theorem dX0_days_2 : decode cX0_days 2 = .ok (.iconst 1, 1) := dk_4 (dk_at dksX0_days_0 2 rfl rfl)
theorem dX0_days_3 : decode cX0_days 3 = .ok (.bipush 100, 2) := dk_16 100 (dk_at dksX0_days_0 3 rfl rfl)
theorem dX0_days_5 : decode cX0_days 5 = .ok (.invokevirtual 274, 3) := dk_182 1 18 (dk_at dksX0_days_0 5 rfl rfl)
theorem dX0_days_8 : decode cX0_days 8 = .ok (.ifCond .ne 9, 3) := dk_154 0 9 (dk_at dksX0_days_0 8 rfl rfl)
theorem dX0_days_11 : decode cX0_days 11 = .ok (.aload_n 0, 1) := dk_42 (dk_at dksX0_days_0 11 rfl rfl)
theorem dX0_days_12 : decode cX0_days 12 = .ok (.iconst 3, 1) := dk_6 (dk_at dksX0_days_0 12 rfl rfl)
theorem dX0_days_13 : decode cX0_days 13 = .ok (.invokevirtual 101, 3) := dk_182 0 101 (dk_at dksX0_days_0 13 rfl rfl)
theorem dX0_days_16 : decode cX0_days 16 = .ok (.ireturn, 1) := dk_172 (dk_at dksX0_days_0 16 rfl rfl)
theorem dX0_days_17 : decode cX0_days 17 = .ok (.aload_n 0, 1) := dk_42 (dk_at dksX0_days_0 17 rfl rfl)
theorem dX0_days_18 : decode cX0_days 18 = .ok (.invokevirtual 322, 3) := dk_182 1 66 (dk_at dksX0_days_0 18 rfl rfl)
theorem dX0_days_21 : decode cX0_days 21 = .ok (.iconst 0, 1) := dk_3 (dk_at dksX0_days_0 21 rfl rfl)
theorem dX0_days_22 : decode cX0_days 22 = .ok (.istore_n 2, 1) := dk_61 (dk_at dksX0_days_0 22 rfl rfl)
theorem dX0_days_23 : decode cX0_days 23 = .ok (.iconst 0, 1) := dk_3 (dk_at dksX0_days_0 23 rfl rfl)
theorem dX0_days_24 : decode cX0_days 24 = .ok (.istore_n 3, 1) := dk_62 (dk_at dksX0_days_1 0 rfl rfl)
theorem dX0_days_25 : decode cX0_days 25 = .ok (.iload_n 3, 1) := dk_29 (dk_at dksX0_days_1 1 rfl rfl)
theorem dX0_days_26 : decode cX0_days 26 = .ok (.iload_n 1, 1) := dk_27 (dk_at dksX0_days_1 2 rfl rfl)
theorem dX0_days_27 : decode cX0_days 27 = .ok (.if_icmp .ge 19, 3) := dk_162 0 19 (dk_at dksX0_days_1 3 rfl rfl)
theorem dX0_days_30 : decode cX0_days 30 = .ok (.iload_n 2, 1) := dk_28 (dk_at dksX0_days_1 6 rfl rfl)
theorem dX0_days_31 : decode cX0_days 31 = .ok (.aload_n 0, 1) := dk_42 (dk_at dksX0_days_1 7 rfl rfl)
theorem dX0_days_32 : decode cX0_days 32 = .ok (.getfield 71, 3) := dk_180 0 71 (dk_at dksX0_days_1 8 rfl rfl)
theorem dX0_days_35 : decode cX0_days 35 = .ok (.invokevirtual 281, 3) := dk_182 1 25 (dk_at dksX0_days_1 11 rfl rfl)
theorem dX0_days_38 : decode cX0_days 38 = .ok (.iadd, 1) := dk_96 (dk_at dksX0_days_1 14 rfl rfl)
theorem dX0_days_39 : decode cX0_days 39 = .ok (.istore_n 2, 1) := dk_61 (dk_at dksX0_days_1 15 rfl rfl)
theorem dX0_days_40 : decode cX0_days 40 = .ok (.iinc 3 1, 3) := dk_132 3 1 (dk_at dksX0_days_1 16 rfl rfl)
theorem dX0_days_43 : decode cX0_days 43 = .ok (.goto (-18), 3) := dk_167 255 238 (dk_at dksX0_days_1 19 rfl rfl)
theorem dX0_days_46 : decode cX0_days 46 = .ok (.iload_n 2, 1) := dk_28 (dk_at dksX0_days_1 22 rfl rfl)
theorem dX0_days_47 : decode cX0_days 47 = .ok (.ireturn, 1) := dk_172 (dk_at dksX0_days_1 23 rfl rfl)
abbrev cX0_chance : ByteArray := prog_1_method_55_code
def yX0_chance : MethodName := ⟨RX0, "chance", "(I)I"⟩
def dkwX0_chance_4 : List UInt8 := [182, 1, 25, 87, 132, 3, 1, 167, 255, 181, 28, 172]
abbrev dktX0_chance_4 : List UInt8 := dkwX0_chance_4 ++ []
def dkwX0_chance_3 : List UInt8 := [21, 4, 46, 4, 159, 0, 12, 42, 180, 0, 71, 21, 4, 182, 1, 34, 132, 2, 1, 42, 180, 0, 71]
abbrev dktX0_chance_3 : List UInt8 := dkwX0_chance_3 ++ dktX0_chance_4
def dkwX0_chance_2 : List UInt8 := [182, 0, 149, 158, 0, 39, 42, 42, 182, 0, 149, 182, 1, 76, 54, 4, 42, 180, 0, 71, 180, 0, 216]
abbrev dktX0_chance_2 : List UInt8 := dkwX0_chance_2 ++ dktX0_chance_3
def dkwX0_chance_1 : List UInt8 := [62, 29, 27, 162, 0, 76, 42, 16, 100, 182, 1, 76, 42, 180, 0, 33, 180, 1, 79, 162, 0, 46, 42]
abbrev dktX0_chance_1 : List UInt8 := dkwX0_chance_1 ++ dktX0_chance_2
def dkwX0_chance_0 : List UInt8 := [42, 27, 4, 16, 100, 182, 1, 18, 154, 0, 9, 42, 6, 182, 0, 101, 172, 42, 182, 1, 66, 3, 61, 3]
abbrev dktX0_chance_0 : List UInt8 := dkwX0_chance_0 ++ dktX0_chance_1
theorem dksX0_chance_0 : cX0_chance.data.toList.drop 0 = dktX0_chance_0 := by decide +kernel
theorem dksX0_chance_1 : cX0_chance.data.toList.drop 24 = dktX0_chance_1 := dk_seg dksX0_chance_0 24 rfl rfl
theorem dksX0_chance_2 : cX0_chance.data.toList.drop 47 = dktX0_chance_2 := dk_seg dksX0_chance_1 23 rfl rfl
theorem dksX0_chance_3 : cX0_chance.data.toList.drop 70 = dktX0_chance_3 := dk_seg dksX0_chance_2 23 rfl rfl
theorem dksX0_chance_4 : cX0_chance.data.toList.drop 93 = dktX0_chance_4 := dk_seg dksX0_chance_3 23 rfl rfl
theorem dX0_chance_0 : decode cX0_chance 0 = .ok (.aload_n 0, 1) := dk_42 (dk_at dksX0_chance_0 0 rfl rfl)
theorem dX0_chance_1 : decode cX0_chance 1 = .ok (.iload_n 1, 1) := dk_27 (dk_at dksX0_chance_0 1 rfl rfl)
theorem dX0_chance_2 : decode cX0_chance 2 = .ok (.iconst 1, 1) := dk_4 (dk_at dksX0_chance_0 2 rfl rfl)
theorem dX0_chance_3 : decode cX0_chance 3 = .ok (.bipush 100, 2) := dk_16 100 (dk_at dksX0_chance_0 3 rfl rfl)
theorem dX0_chance_5 : decode cX0_chance 5 = .ok (.invokevirtual 274, 3) := dk_182 1 18 (dk_at dksX0_chance_0 5 rfl rfl)
theorem dX0_chance_8 : decode cX0_chance 8 = .ok (.ifCond .ne 9, 3) := dk_154 0 9 (dk_at dksX0_chance_0 8 rfl rfl)
theorem dX0_chance_11 : decode cX0_chance 11 = .ok (.aload_n 0, 1) := dk_42 (dk_at dksX0_chance_0 11 rfl rfl)
theorem dX0_chance_12 : decode cX0_chance 12 = .ok (.iconst 3, 1) := dk_6 (dk_at dksX0_chance_0 12 rfl rfl)
theorem dX0_chance_13 : decode cX0_chance 13 = .ok (.invokevirtual 101, 3) := dk_182 0 101 (dk_at dksX0_chance_0 13 rfl rfl)
theorem dX0_chance_16 : decode cX0_chance 16 = .ok (.ireturn, 1) := dk_172 (dk_at dksX0_chance_0 16 rfl rfl)
theorem dX0_chance_17 : decode cX0_chance 17 = .ok (.aload_n 0, 1) := dk_42 (dk_at dksX0_chance_0 17 rfl rfl)
theorem dX0_chance_18 : decode cX0_chance 18 = .ok (.invokevirtual 322, 3) := dk_182 1 66 (dk_at dksX0_chance_0 18 rfl rfl)
theorem dX0_chance_21 : decode cX0_chance 21 = .ok (.iconst 0, 1) := dk_3 (dk_at dksX0_chance_0 21 rfl rfl)
theorem dX0_chance_22 : decode cX0_chance 22 = .ok (.istore_n 2, 1) := dk_61 (dk_at dksX0_chance_0 22 rfl rfl)
theorem dX0_chance_23 : decode cX0_chance 23 = .ok (.iconst 0, 1) := dk_3 (dk_at dksX0_chance_0 23 rfl rfl)
theorem dX0_chance_24 : decode cX0_chance 24 = .ok (.istore_n 3, 1) := dk_62 (dk_at dksX0_chance_1 0 rfl rfl)
theorem dX0_chance_25 : decode cX0_chance 25 = .ok (.iload_n 3, 1) := dk_29 (dk_at dksX0_chance_1 1 rfl rfl)
theorem dX0_chance_26 : decode cX0_chance 26 = .ok (.iload_n 1, 1) := dk_27 (dk_at dksX0_chance_1 2 rfl rfl)
theorem dX0_chance_27 : decode cX0_chance 27 = .ok (.if_icmp .ge 76, 3) := dk_162 0 76 (dk_at dksX0_chance_1 3 rfl rfl)
theorem dX0_chance_30 : decode cX0_chance 30 = .ok (.aload_n 0, 1) := dk_42 (dk_at dksX0_chance_1 6 rfl rfl)
theorem dX0_chance_31 : decode cX0_chance 31 = .ok (.bipush 100, 2) := dk_16 100 (dk_at dksX0_chance_1 7 rfl rfl)
theorem dX0_chance_33 : decode cX0_chance 33 = .ok (.invokevirtual 332, 3) := dk_182 1 76 (dk_at dksX0_chance_1 9 rfl rfl)
theorem dX0_chance_36 : decode cX0_chance 36 = .ok (.aload_n 0, 1) := dk_42 (dk_at dksX0_chance_1 12 rfl rfl)
theorem dX0_chance_37 : decode cX0_chance 37 = .ok (.getfield 33, 3) := dk_180 0 33 (dk_at dksX0_chance_1 13 rfl rfl)
theorem dX0_chance_40 : decode cX0_chance 40 = .ok (.getfield 335, 3) := dk_180 1 79 (dk_at dksX0_chance_1 16 rfl rfl)
theorem dX0_chance_43 : decode cX0_chance 43 = .ok (.if_icmp .ge 46, 3) := dk_162 0 46 (dk_at dksX0_chance_1 19 rfl rfl)
theorem dX0_chance_46 : decode cX0_chance 46 = .ok (.aload_n 0, 1) := dk_42 (dk_at dksX0_chance_1 22 rfl rfl)
theorem dX0_chance_47 : decode cX0_chance 47 = .ok (.invokevirtual 149, 3) := dk_182 0 149 (dk_at dksX0_chance_2 0 rfl rfl)
theorem dX0_chance_50 : decode cX0_chance 50 = .ok (.ifCond .le 39, 3) := dk_158 0 39 (dk_at dksX0_chance_2 3 rfl rfl)
theorem dX0_chance_53 : decode cX0_chance 53 = .ok (.aload_n 0, 1) := dk_42 (dk_at dksX0_chance_2 6 rfl rfl)
theorem dX0_chance_54 : decode cX0_chance 54 = .ok (.aload_n 0, 1) := dk_42 (dk_at dksX0_chance_2 7 rfl rfl)
theorem dX0_chance_55 : decode cX0_chance 55 = .ok (.invokevirtual 149, 3) := dk_182 0 149 (dk_at dksX0_chance_2 8 rfl rfl)
theorem dX0_chance_58 : decode cX0_chance 58 = .ok (.invokevirtual 332, 3) := dk_182 1 76 (dk_at dksX0_chance_2 11 rfl rfl)
theorem dX0_chance_61 : decode cX0_chance 61 = .ok (.istore 4, 2) := dk_54 4 (dk_at dksX0_chance_2 14 rfl rfl)
theorem dX0_chance_63 : decode cX0_chance 63 = .ok (.aload_n 0, 1) := dk_42 (dk_at dksX0_chance_2 16 rfl rfl)
theorem dX0_chance_64 : decode cX0_chance 64 = .ok (.getfield 71, 3) := dk_180 0 71 (dk_at dksX0_chance_2 17 rfl rfl)
theorem dX0_chance_67 : decode cX0_chance 67 = .ok (.getfield 216, 3) := dk_180 0 216 (dk_at dksX0_chance_2 20 rfl rfl)
theorem dX0_chance_70 : decode cX0_chance 70 = .ok (.iload 4, 2) := dk_21 4 (dk_at dksX0_chance_3 0 rfl rfl)
theorem dX0_chance_72 : decode cX0_chance 72 = .ok (.iaload, 1) := dk_46 (dk_at dksX0_chance_3 2 rfl rfl)
theorem dX0_chance_73 : decode cX0_chance 73 = .ok (.iconst 1, 1) := dk_4 (dk_at dksX0_chance_3 3 rfl rfl)
theorem dX0_chance_74 : decode cX0_chance 74 = .ok (.if_icmp .eq 12, 3) := dk_159 0 12 (dk_at dksX0_chance_3 4 rfl rfl)
theorem dX0_chance_77 : decode cX0_chance 77 = .ok (.aload_n 0, 1) := dk_42 (dk_at dksX0_chance_3 7 rfl rfl)
theorem dX0_chance_78 : decode cX0_chance 78 = .ok (.getfield 71, 3) := dk_180 0 71 (dk_at dksX0_chance_3 8 rfl rfl)
theorem dX0_chance_81 : decode cX0_chance 81 = .ok (.iload 4, 2) := dk_21 4 (dk_at dksX0_chance_3 11 rfl rfl)
theorem dX0_chance_83 : decode cX0_chance 83 = .ok (.invokevirtual 290, 3) := dk_182 1 34 (dk_at dksX0_chance_3 13 rfl rfl)
theorem dX0_chance_86 : decode cX0_chance 86 = .ok (.iinc 2 1, 3) := dk_132 2 1 (dk_at dksX0_chance_3 16 rfl rfl)
theorem dX0_chance_89 : decode cX0_chance 89 = .ok (.aload_n 0, 1) := dk_42 (dk_at dksX0_chance_3 19 rfl rfl)
theorem dX0_chance_90 : decode cX0_chance 90 = .ok (.getfield 71, 3) := dk_180 0 71 (dk_at dksX0_chance_3 20 rfl rfl)
theorem dX0_chance_93 : decode cX0_chance 93 = .ok (.invokevirtual 281, 3) := dk_182 1 25 (dk_at dksX0_chance_4 0 rfl rfl)
theorem dX0_chance_96 : decode cX0_chance 96 = .ok (.pop, 1) := dk_87 (dk_at dksX0_chance_4 3 rfl rfl)
theorem dX0_chance_97 : decode cX0_chance 97 = .ok (.iinc 3 1, 3) := dk_132 3 1 (dk_at dksX0_chance_4 4 rfl rfl)
theorem dX0_chance_100 : decode cX0_chance 100 = .ok (.goto (-75), 3) := dk_167 255 181 (dk_at dksX0_chance_4 7 rfl rfl)
theorem dX0_chance_103 : decode cX0_chance 103 = .ok (.iload_n 2, 1) := dk_28 (dk_at dksX0_chance_4 10 rfl rfl)
theorem dX0_chance_104 : decode cX0_chance 104 = .ok (.ireturn, 1) := dk_172 (dk_at dksX0_chance_4 11 rfl rfl)
abbrev cX0_draw : ByteArray := prog_1_method_54_code
def yX0_draw : MethodName := ⟨RX0, "draw", "(I)I"⟩
def dkwX0_draw_1 : List UInt8 := [20, 1, 74, 109, 27, 133, 113, 136, 172]
abbrev dktX0_draw_1 : List UInt8 := dkwX0_draw_1 ++ []
def dkwX0_draw_0 : List UInt8 := [42, 20, 1, 68, 42, 180, 0, 91, 105, 20, 1, 70, 97, 20, 1, 72, 113, 181, 0, 91, 42, 180, 0, 91]
abbrev dktX0_draw_0 : List UInt8 := dkwX0_draw_0 ++ dktX0_draw_1
theorem dksX0_draw_0 : cX0_draw.data.toList.drop 0 = dktX0_draw_0 := by decide +kernel
theorem dksX0_draw_1 : cX0_draw.data.toList.drop 24 = dktX0_draw_1 := dk_seg dksX0_draw_0 24 rfl rfl
theorem dX0_draw_0 : decode cX0_draw 0 = .ok (.aload_n 0, 1) := dk_42 (dk_at dksX0_draw_0 0 rfl rfl)
theorem dX0_draw_1 : decode cX0_draw 1 = .ok (.ldc2_w 324, 3) := dk_20 1 68 (dk_at dksX0_draw_0 1 rfl rfl)
theorem dX0_draw_4 : decode cX0_draw 4 = .ok (.aload_n 0, 1) := dk_42 (dk_at dksX0_draw_0 4 rfl rfl)
theorem dX0_draw_5 : decode cX0_draw 5 = .ok (.getfield 91, 3) := dk_180 0 91 (dk_at dksX0_draw_0 5 rfl rfl)
theorem dX0_draw_8 : decode cX0_draw 8 = .ok (.lmul, 1) := dk_105 (dk_at dksX0_draw_0 8 rfl rfl)
theorem dX0_draw_9 : decode cX0_draw 9 = .ok (.ldc2_w 326, 3) := dk_20 1 70 (dk_at dksX0_draw_0 9 rfl rfl)
theorem dX0_draw_12 : decode cX0_draw 12 = .ok (.ladd, 1) := dk_97 (dk_at dksX0_draw_0 12 rfl rfl)
theorem dX0_draw_13 : decode cX0_draw 13 = .ok (.ldc2_w 328, 3) := dk_20 1 72 (dk_at dksX0_draw_0 13 rfl rfl)
theorem dX0_draw_16 : decode cX0_draw 16 = .ok (.lrem, 1) := dk_113 (dk_at dksX0_draw_0 16 rfl rfl)
theorem dX0_draw_17 : decode cX0_draw 17 = .ok (.putfield 91, 3) := dk_181 0 91 (dk_at dksX0_draw_0 17 rfl rfl)
theorem dX0_draw_20 : decode cX0_draw 20 = .ok (.aload_n 0, 1) := dk_42 (dk_at dksX0_draw_0 20 rfl rfl)
theorem dX0_draw_21 : decode cX0_draw 21 = .ok (.getfield 91, 3) := dk_180 0 91 (dk_at dksX0_draw_0 21 rfl rfl)
theorem dX0_draw_24 : decode cX0_draw 24 = .ok (.ldc2_w 330, 3) := dk_20 1 74 (dk_at dksX0_draw_1 0 rfl rfl)
theorem dX0_draw_27 : decode cX0_draw 27 = .ok (.ldiv, 1) := dk_109 (dk_at dksX0_draw_1 3 rfl rfl)
theorem dX0_draw_28 : decode cX0_draw 28 = .ok (.iload_n 1, 1) := dk_27 (dk_at dksX0_draw_1 4 rfl rfl)
theorem dX0_draw_29 : decode cX0_draw 29 = .ok (.i2l, 1) := dk_133 (dk_at dksX0_draw_1 5 rfl rfl)
theorem dX0_draw_30 : decode cX0_draw 30 = .ok (.lrem, 1) := dk_113 (dk_at dksX0_draw_1 6 rfl rfl)
theorem dX0_draw_31 : decode cX0_draw 31 = .ok (.l2i, 1) := dk_136 (dk_at dksX0_draw_1 7 rfl rfl)
theorem dX0_draw_32 : decode cX0_draw 32 = .ok (.ireturn, 1) := dk_172 (dk_at dksX0_draw_1 8 rfl rfl)
abbrev cX0_seed : ByteArray := prog_1_method_56_code
def yX0_seed : MethodName := ⟨RX0, "seed", "(I)Z"⟩
def dkwX0_seed_1 : List UInt8 := [4, 172]
abbrev dktX0_seed_1 : List UInt8 := dkwX0_seed_1 ++ []
def dkwX0_seed_0 : List UInt8 := [27, 156, 0, 17, 42, 8, 182, 0, 101, 155, 0, 7, 4, 167, 0, 4, 3, 172, 42, 27, 133, 181, 0, 91]
abbrev dktX0_seed_0 : List UInt8 := dkwX0_seed_0 ++ dktX0_seed_1
theorem dksX0_seed_0 : cX0_seed.data.toList.drop 0 = dktX0_seed_0 := by decide +kernel
theorem dksX0_seed_1 : cX0_seed.data.toList.drop 24 = dktX0_seed_1 := dk_seg dksX0_seed_0 24 rfl rfl
theorem dX0_seed_0 : decode cX0_seed 0 = .ok (.iload_n 1, 1) := dk_27 (dk_at dksX0_seed_0 0 rfl rfl)
theorem dX0_seed_1 : decode cX0_seed 1 = .ok (.ifCond .ge 17, 3) := dk_156 0 17 (dk_at dksX0_seed_0 1 rfl rfl)
theorem dX0_seed_4 : decode cX0_seed 4 = .ok (.aload_n 0, 1) := dk_42 (dk_at dksX0_seed_0 4 rfl rfl)
theorem dX0_seed_5 : decode cX0_seed 5 = .ok (.iconst 5, 1) := dk_8 (dk_at dksX0_seed_0 5 rfl rfl)
theorem dX0_seed_6 : decode cX0_seed 6 = .ok (.invokevirtual 101, 3) := dk_182 0 101 (dk_at dksX0_seed_0 6 rfl rfl)
theorem dX0_seed_9 : decode cX0_seed 9 = .ok (.ifCond .lt 7, 3) := dk_155 0 7 (dk_at dksX0_seed_0 9 rfl rfl)
theorem dX0_seed_12 : decode cX0_seed 12 = .ok (.iconst 1, 1) := dk_4 (dk_at dksX0_seed_0 12 rfl rfl)
theorem dX0_seed_13 : decode cX0_seed 13 = .ok (.goto 4, 3) := dk_167 0 4 (dk_at dksX0_seed_0 13 rfl rfl)
theorem dX0_seed_16 : decode cX0_seed 16 = .ok (.iconst 0, 1) := dk_3 (dk_at dksX0_seed_0 16 rfl rfl)
theorem dX0_seed_17 : decode cX0_seed 17 = .ok (.ireturn, 1) := dk_172 (dk_at dksX0_seed_0 17 rfl rfl)
theorem dX0_seed_18 : decode cX0_seed 18 = .ok (.aload_n 0, 1) := dk_42 (dk_at dksX0_seed_0 18 rfl rfl)
theorem dX0_seed_19 : decode cX0_seed 19 = .ok (.iload_n 1, 1) := dk_27 (dk_at dksX0_seed_0 19 rfl rfl)
theorem dX0_seed_20 : decode cX0_seed 20 = .ok (.i2l, 1) := dk_133 (dk_at dksX0_seed_0 20 rfl rfl)
theorem dX0_seed_21 : decode cX0_seed 21 = .ok (.putfield 91, 3) := dk_181 0 91 (dk_at dksX0_seed_0 21 rfl rfl)
theorem dX0_seed_24 : decode cX0_seed 24 = .ok (.iconst 1, 1) := dk_4 (dk_at dksX0_seed_1 0 rfl rfl)
theorem dX0_seed_25 : decode cX0_seed 25 = .ok (.ireturn, 1) := dk_172 (dk_at dksX0_seed_1 1 rfl rfl)
abbrev cX0_ask : ByteArray := prog_1_method_58_code
def yX0_ask : MethodName := ⟨RX0, "ask", "()J"⟩
def dkwX0_ask_11 : List UInt8 := [182, 1, 93, 42, 89, 180, 1, 82, 4, 96, 181, 1, 82, 167, 255, 43, 44, 182, 1, 99, 173]
abbrev dktX0_ask_11 : List UInt8 := dkwX0_ask_11 ++ []
def dkwX0_ask_10 : List UInt8 := [180, 1, 82, 51, 153, 0, 7, 10, 167, 0, 4, 9, 80, 44, 42, 180, 1, 82, 42, 180, 0, 61]
abbrev dktX0_ask_10 : List UInt8 := dkwX0_ask_10 ++ dktX0_ask_11
def dkwX0_ask_9 : List UInt8 := [180, 1, 82, 133, 80, 42, 180, 0, 61, 180, 1, 89, 16, 9, 42, 180, 0, 71, 180, 0, 227, 42]
abbrev dktX0_ask_9 : List UInt8 := dkwX0_ask_9 ++ dktX0_ask_10
def dkwX0_ask_8 : List UInt8 := [180, 0, 71, 180, 0, 224, 42, 180, 1, 82, 46, 133, 80, 42, 180, 0, 61, 180, 1, 89, 16, 8, 42]
abbrev dktX0_ask_8 : List UInt8 := dkwX0_ask_8 ++ dktX0_ask_9
def dkwX0_ask_7 : List UInt8 := [180, 1, 89, 8, 42, 180, 0, 71, 180, 0, 177, 133, 80, 42, 180, 0, 61, 180, 1, 89, 16, 6, 42]
abbrev dktX0_ask_7 : List UInt8 := dkwX0_ask_7 ++ dktX0_ask_8
def dkwX0_ask_6 : List UInt8 := [180, 1, 89, 7, 42, 180, 0, 71, 180, 0, 221, 42, 180, 1, 82, 46, 133, 80, 42, 180, 0, 61]
abbrev dktX0_ask_6 : List UInt8 := dkwX0_ask_6 ++ dktX0_ask_7
def dkwX0_ask_5 : List UInt8 := [180, 1, 89, 6, 42, 180, 0, 71, 180, 0, 218, 42, 180, 1, 82, 46, 133, 80, 42, 180, 0, 61]
abbrev dktX0_ask_5 : List UInt8 := dkwX0_ask_5 ++ dktX0_ask_6
def dkwX0_ask_4 : List UInt8 := [180, 0, 171, 133, 80, 42, 180, 0, 61, 180, 1, 89, 5, 45, 180, 0, 213, 133, 80, 42, 180, 0, 61]
abbrev dktX0_ask_4 : List UInt8 := dkwX0_ask_4 ++ dktX0_ask_5
def dkwX0_ask_3 : List UInt8 := [78, 42, 180, 0, 61, 180, 1, 89, 3, 45, 180, 0, 174, 133, 80, 42, 180, 0, 61, 180, 1, 89, 4, 45]
abbrev dktX0_ask_3 : List UInt8 := dkwX0_ask_3 ++ dktX0_ask_4
def dkwX0_ask_2 : List UInt8 := [42, 3, 181, 1, 82, 42, 180, 1, 82, 42, 182, 0, 149, 162, 0, 208, 42, 42, 180, 1, 82, 182, 0, 167]
abbrev dktX0_ask_2 : List UInt8 := dkwX0_ask_2 ++ dktX0_ask_3
def dkwX0_ask_1 : List UInt8 := [167, 0, 24, 78, 42, 45, 180, 0, 122, 181, 0, 109, 42, 45, 180, 0, 125, 181, 0, 41, 20, 1, 40, 173]
abbrev dktX0_ask_1 : List UInt8 := dkwX0_ask_1 ++ dktX0_ask_2
def dkwX0_ask_0 : List UInt8 := [42, 182, 0, 112, 60, 42, 3, 181, 0, 109, 42, 2, 181, 0, 41, 42, 180, 0, 50, 27, 182, 1, 85, 77]
abbrev dktX0_ask_0 : List UInt8 := dkwX0_ask_0 ++ dktX0_ask_1
theorem dksX0_ask_0 : cX0_ask.data.toList.drop 0 = dktX0_ask_0 := by decide +kernel
theorem dksX0_ask_1 : cX0_ask.data.toList.drop 24 = dktX0_ask_1 := dk_seg dksX0_ask_0 24 rfl rfl
theorem dksX0_ask_2 : cX0_ask.data.toList.drop 48 = dktX0_ask_2 := dk_seg dksX0_ask_1 24 rfl rfl
theorem dksX0_ask_3 : cX0_ask.data.toList.drop 72 = dktX0_ask_3 := dk_seg dksX0_ask_2 24 rfl rfl
theorem dksX0_ask_4 : cX0_ask.data.toList.drop 96 = dktX0_ask_4 := dk_seg dksX0_ask_3 24 rfl rfl
theorem dksX0_ask_5 : cX0_ask.data.toList.drop 119 = dktX0_ask_5 := dk_seg dksX0_ask_4 23 rfl rfl
theorem dksX0_ask_6 : cX0_ask.data.toList.drop 141 = dktX0_ask_6 := dk_seg dksX0_ask_5 22 rfl rfl
theorem dksX0_ask_7 : cX0_ask.data.toList.drop 163 = dktX0_ask_7 := dk_seg dksX0_ask_6 22 rfl rfl
theorem dksX0_ask_8 : cX0_ask.data.toList.drop 186 = dktX0_ask_8 := dk_seg dksX0_ask_7 23 rfl rfl
theorem dksX0_ask_9 : cX0_ask.data.toList.drop 209 = dktX0_ask_9 := dk_seg dksX0_ask_8 23 rfl rfl
theorem dksX0_ask_10 : cX0_ask.data.toList.drop 231 = dktX0_ask_10 := dk_seg dksX0_ask_9 22 rfl rfl
theorem dksX0_ask_11 : cX0_ask.data.toList.drop 253 = dktX0_ask_11 := dk_seg dksX0_ask_10 22 rfl rfl
theorem dX0_ask_0 : decode cX0_ask 0 = .ok (.aload_n 0, 1) := dk_42 (dk_at dksX0_ask_0 0 rfl rfl)
theorem dX0_ask_1 : decode cX0_ask 1 = .ok (.invokevirtual 112, 3) := dk_182 0 112 (dk_at dksX0_ask_0 1 rfl rfl)
theorem dX0_ask_4 : decode cX0_ask 4 = .ok (.istore_n 1, 1) := dk_60 (dk_at dksX0_ask_0 4 rfl rfl)
theorem dX0_ask_5 : decode cX0_ask 5 = .ok (.aload_n 0, 1) := dk_42 (dk_at dksX0_ask_0 5 rfl rfl)
theorem dX0_ask_6 : decode cX0_ask 6 = .ok (.iconst 0, 1) := dk_3 (dk_at dksX0_ask_0 6 rfl rfl)
theorem dX0_ask_7 : decode cX0_ask 7 = .ok (.putfield 109, 3) := dk_181 0 109 (dk_at dksX0_ask_0 7 rfl rfl)
theorem dX0_ask_10 : decode cX0_ask 10 = .ok (.aload_n 0, 1) := dk_42 (dk_at dksX0_ask_0 10 rfl rfl)
theorem dX0_ask_11 : decode cX0_ask 11 = .ok (.iconst (-1), 1) := dk_2 (dk_at dksX0_ask_0 11 rfl rfl)
theorem dX0_ask_12 : decode cX0_ask 12 = .ok (.putfield 41, 3) := dk_181 0 41 (dk_at dksX0_ask_0 12 rfl rfl)
theorem dX0_ask_15 : decode cX0_ask 15 = .ok (.aload_n 0, 1) := dk_42 (dk_at dksX0_ask_0 15 rfl rfl)
theorem dX0_ask_16 : decode cX0_ask 16 = .ok (.getfield 50, 3) := dk_180 0 50 (dk_at dksX0_ask_0 16 rfl rfl)
theorem dX0_ask_19 : decode cX0_ask 19 = .ok (.iload_n 1, 1) := dk_27 (dk_at dksX0_ask_0 19 rfl rfl)
theorem dX0_ask_20 : decode cX0_ask 20 = .ok (.invokevirtual 341, 3) := dk_182 1 85 (dk_at dksX0_ask_0 20 rfl rfl)
theorem dX0_ask_23 : decode cX0_ask 23 = .ok (.astore_n 2, 1) := dk_77 (dk_at dksX0_ask_0 23 rfl rfl)
theorem dX0_ask_24 : decode cX0_ask 24 = .ok (.goto 24, 3) := dk_167 0 24 (dk_at dksX0_ask_1 0 rfl rfl)
theorem dX0_ask_27 : decode cX0_ask 27 = .ok (.astore_n 3, 1) := dk_78 (dk_at dksX0_ask_1 3 rfl rfl)
theorem dX0_ask_28 : decode cX0_ask 28 = .ok (.aload_n 0, 1) := dk_42 (dk_at dksX0_ask_1 4 rfl rfl)
theorem dX0_ask_29 : decode cX0_ask 29 = .ok (.aload_n 3, 1) := dk_45 (dk_at dksX0_ask_1 5 rfl rfl)
theorem dX0_ask_30 : decode cX0_ask 30 = .ok (.getfield 122, 3) := dk_180 0 122 (dk_at dksX0_ask_1 6 rfl rfl)
theorem dX0_ask_33 : decode cX0_ask 33 = .ok (.putfield 109, 3) := dk_181 0 109 (dk_at dksX0_ask_1 9 rfl rfl)
theorem dX0_ask_36 : decode cX0_ask 36 = .ok (.aload_n 0, 1) := dk_42 (dk_at dksX0_ask_1 12 rfl rfl)
theorem dX0_ask_37 : decode cX0_ask 37 = .ok (.aload_n 3, 1) := dk_45 (dk_at dksX0_ask_1 13 rfl rfl)
theorem dX0_ask_38 : decode cX0_ask 38 = .ok (.getfield 125, 3) := dk_180 0 125 (dk_at dksX0_ask_1 14 rfl rfl)
theorem dX0_ask_41 : decode cX0_ask 41 = .ok (.putfield 41, 3) := dk_181 0 41 (dk_at dksX0_ask_1 17 rfl rfl)
theorem dX0_ask_44 : decode cX0_ask 44 = .ok (.ldc2_w 296, 3) := dk_20 1 40 (dk_at dksX0_ask_1 20 rfl rfl)
theorem dX0_ask_47 : decode cX0_ask 47 = .ok (.lreturn, 1) := dk_173 (dk_at dksX0_ask_1 23 rfl rfl)
theorem dX0_ask_48 : decode cX0_ask 48 = .ok (.aload_n 0, 1) := dk_42 (dk_at dksX0_ask_2 0 rfl rfl)
theorem dX0_ask_49 : decode cX0_ask 49 = .ok (.iconst 0, 1) := dk_3 (dk_at dksX0_ask_2 1 rfl rfl)
theorem dX0_ask_50 : decode cX0_ask 50 = .ok (.putfield 338, 3) := dk_181 1 82 (dk_at dksX0_ask_2 2 rfl rfl)
theorem dX0_ask_53 : decode cX0_ask 53 = .ok (.aload_n 0, 1) := dk_42 (dk_at dksX0_ask_2 5 rfl rfl)
theorem dX0_ask_54 : decode cX0_ask 54 = .ok (.getfield 338, 3) := dk_180 1 82 (dk_at dksX0_ask_2 6 rfl rfl)
theorem dX0_ask_57 : decode cX0_ask 57 = .ok (.aload_n 0, 1) := dk_42 (dk_at dksX0_ask_2 9 rfl rfl)
theorem dX0_ask_58 : decode cX0_ask 58 = .ok (.invokevirtual 149, 3) := dk_182 0 149 (dk_at dksX0_ask_2 10 rfl rfl)
theorem dX0_ask_61 : decode cX0_ask 61 = .ok (.if_icmp .ge 208, 3) := dk_162 0 208 (dk_at dksX0_ask_2 13 rfl rfl)
theorem dX0_ask_64 : decode cX0_ask 64 = .ok (.aload_n 0, 1) := dk_42 (dk_at dksX0_ask_2 16 rfl rfl)
theorem dX0_ask_65 : decode cX0_ask 65 = .ok (.aload_n 0, 1) := dk_42 (dk_at dksX0_ask_2 17 rfl rfl)
theorem dX0_ask_66 : decode cX0_ask 66 = .ok (.getfield 338, 3) := dk_180 1 82 (dk_at dksX0_ask_2 18 rfl rfl)
theorem dX0_ask_69 : decode cX0_ask 69 = .ok (.invokevirtual 167, 3) := dk_182 0 167 (dk_at dksX0_ask_2 21 rfl rfl)
theorem dX0_ask_72 : decode cX0_ask 72 = .ok (.astore_n 3, 1) := dk_78 (dk_at dksX0_ask_3 0 rfl rfl)
theorem dX0_ask_73 : decode cX0_ask 73 = .ok (.aload_n 0, 1) := dk_42 (dk_at dksX0_ask_3 1 rfl rfl)
theorem dX0_ask_74 : decode cX0_ask 74 = .ok (.getfield 61, 3) := dk_180 0 61 (dk_at dksX0_ask_3 2 rfl rfl)
theorem dX0_ask_77 : decode cX0_ask 77 = .ok (.getfield 345, 3) := dk_180 1 89 (dk_at dksX0_ask_3 5 rfl rfl)
theorem dX0_ask_80 : decode cX0_ask 80 = .ok (.iconst 0, 1) := dk_3 (dk_at dksX0_ask_3 8 rfl rfl)
theorem dX0_ask_81 : decode cX0_ask 81 = .ok (.aload_n 3, 1) := dk_45 (dk_at dksX0_ask_3 9 rfl rfl)
theorem dX0_ask_82 : decode cX0_ask 82 = .ok (.getfield 174, 3) := dk_180 0 174 (dk_at dksX0_ask_3 10 rfl rfl)
theorem dX0_ask_85 : decode cX0_ask 85 = .ok (.i2l, 1) := dk_133 (dk_at dksX0_ask_3 13 rfl rfl)
theorem dX0_ask_86 : decode cX0_ask 86 = .ok (.lastore, 1) := dk_80 (dk_at dksX0_ask_3 14 rfl rfl)
theorem dX0_ask_87 : decode cX0_ask 87 = .ok (.aload_n 0, 1) := dk_42 (dk_at dksX0_ask_3 15 rfl rfl)
theorem dX0_ask_88 : decode cX0_ask 88 = .ok (.getfield 61, 3) := dk_180 0 61 (dk_at dksX0_ask_3 16 rfl rfl)
theorem dX0_ask_91 : decode cX0_ask 91 = .ok (.getfield 345, 3) := dk_180 1 89 (dk_at dksX0_ask_3 19 rfl rfl)
theorem dX0_ask_94 : decode cX0_ask 94 = .ok (.iconst 1, 1) := dk_4 (dk_at dksX0_ask_3 22 rfl rfl)
theorem dX0_ask_95 : decode cX0_ask 95 = .ok (.aload_n 3, 1) := dk_45 (dk_at dksX0_ask_3 23 rfl rfl)
theorem dX0_ask_96 : decode cX0_ask 96 = .ok (.getfield 171, 3) := dk_180 0 171 (dk_at dksX0_ask_4 0 rfl rfl)
theorem dX0_ask_99 : decode cX0_ask 99 = .ok (.i2l, 1) := dk_133 (dk_at dksX0_ask_4 3 rfl rfl)
theorem dX0_ask_100 : decode cX0_ask 100 = .ok (.lastore, 1) := dk_80 (dk_at dksX0_ask_4 4 rfl rfl)
theorem dX0_ask_101 : decode cX0_ask 101 = .ok (.aload_n 0, 1) := dk_42 (dk_at dksX0_ask_4 5 rfl rfl)
theorem dX0_ask_102 : decode cX0_ask 102 = .ok (.getfield 61, 3) := dk_180 0 61 (dk_at dksX0_ask_4 6 rfl rfl)
theorem dX0_ask_105 : decode cX0_ask 105 = .ok (.getfield 345, 3) := dk_180 1 89 (dk_at dksX0_ask_4 9 rfl rfl)
theorem dX0_ask_108 : decode cX0_ask 108 = .ok (.iconst 2, 1) := dk_5 (dk_at dksX0_ask_4 12 rfl rfl)
theorem dX0_ask_109 : decode cX0_ask 109 = .ok (.aload_n 3, 1) := dk_45 (dk_at dksX0_ask_4 13 rfl rfl)
theorem dX0_ask_110 : decode cX0_ask 110 = .ok (.getfield 213, 3) := dk_180 0 213 (dk_at dksX0_ask_4 14 rfl rfl)
theorem dX0_ask_113 : decode cX0_ask 113 = .ok (.i2l, 1) := dk_133 (dk_at dksX0_ask_4 17 rfl rfl)
theorem dX0_ask_114 : decode cX0_ask 114 = .ok (.lastore, 1) := dk_80 (dk_at dksX0_ask_4 18 rfl rfl)
theorem dX0_ask_115 : decode cX0_ask 115 = .ok (.aload_n 0, 1) := dk_42 (dk_at dksX0_ask_4 19 rfl rfl)
theorem dX0_ask_116 : decode cX0_ask 116 = .ok (.getfield 61, 3) := dk_180 0 61 (dk_at dksX0_ask_4 20 rfl rfl)
theorem dX0_ask_119 : decode cX0_ask 119 = .ok (.getfield 345, 3) := dk_180 1 89 (dk_at dksX0_ask_5 0 rfl rfl)
theorem dX0_ask_122 : decode cX0_ask 122 = .ok (.iconst 3, 1) := dk_6 (dk_at dksX0_ask_5 3 rfl rfl)
theorem dX0_ask_123 : decode cX0_ask 123 = .ok (.aload_n 0, 1) := dk_42 (dk_at dksX0_ask_5 4 rfl rfl)
theorem dX0_ask_124 : decode cX0_ask 124 = .ok (.getfield 71, 3) := dk_180 0 71 (dk_at dksX0_ask_5 5 rfl rfl)
theorem dX0_ask_127 : decode cX0_ask 127 = .ok (.getfield 218, 3) := dk_180 0 218 (dk_at dksX0_ask_5 8 rfl rfl)
theorem dX0_ask_130 : decode cX0_ask 130 = .ok (.aload_n 0, 1) := dk_42 (dk_at dksX0_ask_5 11 rfl rfl)
theorem dX0_ask_131 : decode cX0_ask 131 = .ok (.getfield 338, 3) := dk_180 1 82 (dk_at dksX0_ask_5 12 rfl rfl)
theorem dX0_ask_134 : decode cX0_ask 134 = .ok (.iaload, 1) := dk_46 (dk_at dksX0_ask_5 15 rfl rfl)
theorem dX0_ask_135 : decode cX0_ask 135 = .ok (.i2l, 1) := dk_133 (dk_at dksX0_ask_5 16 rfl rfl)
theorem dX0_ask_136 : decode cX0_ask 136 = .ok (.lastore, 1) := dk_80 (dk_at dksX0_ask_5 17 rfl rfl)
theorem dX0_ask_137 : decode cX0_ask 137 = .ok (.aload_n 0, 1) := dk_42 (dk_at dksX0_ask_5 18 rfl rfl)
theorem dX0_ask_138 : decode cX0_ask 138 = .ok (.getfield 61, 3) := dk_180 0 61 (dk_at dksX0_ask_5 19 rfl rfl)
theorem dX0_ask_141 : decode cX0_ask 141 = .ok (.getfield 345, 3) := dk_180 1 89 (dk_at dksX0_ask_6 0 rfl rfl)
theorem dX0_ask_144 : decode cX0_ask 144 = .ok (.iconst 4, 1) := dk_7 (dk_at dksX0_ask_6 3 rfl rfl)
theorem dX0_ask_145 : decode cX0_ask 145 = .ok (.aload_n 0, 1) := dk_42 (dk_at dksX0_ask_6 4 rfl rfl)
theorem dX0_ask_146 : decode cX0_ask 146 = .ok (.getfield 71, 3) := dk_180 0 71 (dk_at dksX0_ask_6 5 rfl rfl)
theorem dX0_ask_149 : decode cX0_ask 149 = .ok (.getfield 221, 3) := dk_180 0 221 (dk_at dksX0_ask_6 8 rfl rfl)
theorem dX0_ask_152 : decode cX0_ask 152 = .ok (.aload_n 0, 1) := dk_42 (dk_at dksX0_ask_6 11 rfl rfl)
theorem dX0_ask_153 : decode cX0_ask 153 = .ok (.getfield 338, 3) := dk_180 1 82 (dk_at dksX0_ask_6 12 rfl rfl)
theorem dX0_ask_156 : decode cX0_ask 156 = .ok (.iaload, 1) := dk_46 (dk_at dksX0_ask_6 15 rfl rfl)
theorem dX0_ask_157 : decode cX0_ask 157 = .ok (.i2l, 1) := dk_133 (dk_at dksX0_ask_6 16 rfl rfl)
theorem dX0_ask_158 : decode cX0_ask 158 = .ok (.lastore, 1) := dk_80 (dk_at dksX0_ask_6 17 rfl rfl)
theorem dX0_ask_159 : decode cX0_ask 159 = .ok (.aload_n 0, 1) := dk_42 (dk_at dksX0_ask_6 18 rfl rfl)
theorem dX0_ask_160 : decode cX0_ask 160 = .ok (.getfield 61, 3) := dk_180 0 61 (dk_at dksX0_ask_6 19 rfl rfl)
theorem dX0_ask_163 : decode cX0_ask 163 = .ok (.getfield 345, 3) := dk_180 1 89 (dk_at dksX0_ask_7 0 rfl rfl)
theorem dX0_ask_166 : decode cX0_ask 166 = .ok (.iconst 5, 1) := dk_8 (dk_at dksX0_ask_7 3 rfl rfl)
theorem dX0_ask_167 : decode cX0_ask 167 = .ok (.aload_n 0, 1) := dk_42 (dk_at dksX0_ask_7 4 rfl rfl)
theorem dX0_ask_168 : decode cX0_ask 168 = .ok (.getfield 71, 3) := dk_180 0 71 (dk_at dksX0_ask_7 5 rfl rfl)
theorem dX0_ask_171 : decode cX0_ask 171 = .ok (.getfield 177, 3) := dk_180 0 177 (dk_at dksX0_ask_7 8 rfl rfl)
theorem dX0_ask_174 : decode cX0_ask 174 = .ok (.i2l, 1) := dk_133 (dk_at dksX0_ask_7 11 rfl rfl)
theorem dX0_ask_175 : decode cX0_ask 175 = .ok (.lastore, 1) := dk_80 (dk_at dksX0_ask_7 12 rfl rfl)
theorem dX0_ask_176 : decode cX0_ask 176 = .ok (.aload_n 0, 1) := dk_42 (dk_at dksX0_ask_7 13 rfl rfl)
theorem dX0_ask_177 : decode cX0_ask 177 = .ok (.getfield 61, 3) := dk_180 0 61 (dk_at dksX0_ask_7 14 rfl rfl)
theorem dX0_ask_180 : decode cX0_ask 180 = .ok (.getfield 345, 3) := dk_180 1 89 (dk_at dksX0_ask_7 17 rfl rfl)
theorem dX0_ask_183 : decode cX0_ask 183 = .ok (.bipush 6, 2) := dk_16 6 (dk_at dksX0_ask_7 20 rfl rfl)
theorem dX0_ask_185 : decode cX0_ask 185 = .ok (.aload_n 0, 1) := dk_42 (dk_at dksX0_ask_7 22 rfl rfl)
theorem dX0_ask_186 : decode cX0_ask 186 = .ok (.getfield 71, 3) := dk_180 0 71 (dk_at dksX0_ask_8 0 rfl rfl)
theorem dX0_ask_189 : decode cX0_ask 189 = .ok (.getfield 224, 3) := dk_180 0 224 (dk_at dksX0_ask_8 3 rfl rfl)
theorem dX0_ask_192 : decode cX0_ask 192 = .ok (.aload_n 0, 1) := dk_42 (dk_at dksX0_ask_8 6 rfl rfl)
theorem dX0_ask_193 : decode cX0_ask 193 = .ok (.getfield 338, 3) := dk_180 1 82 (dk_at dksX0_ask_8 7 rfl rfl)
theorem dX0_ask_196 : decode cX0_ask 196 = .ok (.iaload, 1) := dk_46 (dk_at dksX0_ask_8 10 rfl rfl)
theorem dX0_ask_197 : decode cX0_ask 197 = .ok (.i2l, 1) := dk_133 (dk_at dksX0_ask_8 11 rfl rfl)
theorem dX0_ask_198 : decode cX0_ask 198 = .ok (.lastore, 1) := dk_80 (dk_at dksX0_ask_8 12 rfl rfl)
theorem dX0_ask_199 : decode cX0_ask 199 = .ok (.aload_n 0, 1) := dk_42 (dk_at dksX0_ask_8 13 rfl rfl)
theorem dX0_ask_200 : decode cX0_ask 200 = .ok (.getfield 61, 3) := dk_180 0 61 (dk_at dksX0_ask_8 14 rfl rfl)
theorem dX0_ask_203 : decode cX0_ask 203 = .ok (.getfield 345, 3) := dk_180 1 89 (dk_at dksX0_ask_8 17 rfl rfl)
theorem dX0_ask_206 : decode cX0_ask 206 = .ok (.bipush 8, 2) := dk_16 8 (dk_at dksX0_ask_8 20 rfl rfl)
theorem dX0_ask_208 : decode cX0_ask 208 = .ok (.aload_n 0, 1) := dk_42 (dk_at dksX0_ask_8 22 rfl rfl)
theorem dX0_ask_209 : decode cX0_ask 209 = .ok (.getfield 338, 3) := dk_180 1 82 (dk_at dksX0_ask_9 0 rfl rfl)
theorem dX0_ask_212 : decode cX0_ask 212 = .ok (.i2l, 1) := dk_133 (dk_at dksX0_ask_9 3 rfl rfl)
theorem dX0_ask_213 : decode cX0_ask 213 = .ok (.lastore, 1) := dk_80 (dk_at dksX0_ask_9 4 rfl rfl)
theorem dX0_ask_214 : decode cX0_ask 214 = .ok (.aload_n 0, 1) := dk_42 (dk_at dksX0_ask_9 5 rfl rfl)
theorem dX0_ask_215 : decode cX0_ask 215 = .ok (.getfield 61, 3) := dk_180 0 61 (dk_at dksX0_ask_9 6 rfl rfl)
theorem dX0_ask_218 : decode cX0_ask 218 = .ok (.getfield 345, 3) := dk_180 1 89 (dk_at dksX0_ask_9 9 rfl rfl)
theorem dX0_ask_221 : decode cX0_ask 221 = .ok (.bipush 9, 2) := dk_16 9 (dk_at dksX0_ask_9 12 rfl rfl)
theorem dX0_ask_223 : decode cX0_ask 223 = .ok (.aload_n 0, 1) := dk_42 (dk_at dksX0_ask_9 14 rfl rfl)
theorem dX0_ask_224 : decode cX0_ask 224 = .ok (.getfield 71, 3) := dk_180 0 71 (dk_at dksX0_ask_9 15 rfl rfl)
theorem dX0_ask_227 : decode cX0_ask 227 = .ok (.getfield 227, 3) := dk_180 0 227 (dk_at dksX0_ask_9 18 rfl rfl)
theorem dX0_ask_230 : decode cX0_ask 230 = .ok (.aload_n 0, 1) := dk_42 (dk_at dksX0_ask_9 21 rfl rfl)
theorem dX0_ask_231 : decode cX0_ask 231 = .ok (.getfield 338, 3) := dk_180 1 82 (dk_at dksX0_ask_10 0 rfl rfl)
theorem dX0_ask_234 : decode cX0_ask 234 = .ok (.baload, 1) := dk_51 (dk_at dksX0_ask_10 3 rfl rfl)
theorem dX0_ask_235 : decode cX0_ask 235 = .ok (.ifCond .eq 7, 3) := dk_153 0 7 (dk_at dksX0_ask_10 4 rfl rfl)
theorem dX0_ask_238 : decode cX0_ask 238 = .ok (.lconst 1, 1) := dk_10 (dk_at dksX0_ask_10 7 rfl rfl)
theorem dX0_ask_239 : decode cX0_ask 239 = .ok (.goto 4, 3) := dk_167 0 4 (dk_at dksX0_ask_10 8 rfl rfl)
theorem dX0_ask_242 : decode cX0_ask 242 = .ok (.lconst 0, 1) := dk_9 (dk_at dksX0_ask_10 11 rfl rfl)
theorem dX0_ask_243 : decode cX0_ask 243 = .ok (.lastore, 1) := dk_80 (dk_at dksX0_ask_10 12 rfl rfl)
theorem dX0_ask_244 : decode cX0_ask 244 = .ok (.aload_n 2, 1) := dk_44 (dk_at dksX0_ask_10 13 rfl rfl)
theorem dX0_ask_245 : decode cX0_ask 245 = .ok (.aload_n 0, 1) := dk_42 (dk_at dksX0_ask_10 14 rfl rfl)
theorem dX0_ask_246 : decode cX0_ask 246 = .ok (.getfield 338, 3) := dk_180 1 82 (dk_at dksX0_ask_10 15 rfl rfl)
theorem dX0_ask_249 : decode cX0_ask 249 = .ok (.aload_n 0, 1) := dk_42 (dk_at dksX0_ask_10 18 rfl rfl)
theorem dX0_ask_250 : decode cX0_ask 250 = .ok (.getfield 61, 3) := dk_180 0 61 (dk_at dksX0_ask_10 19 rfl rfl)
theorem dX0_ask_253 : decode cX0_ask 253 = .ok (.invokevirtual 349, 3) := dk_182 1 93 (dk_at dksX0_ask_11 0 rfl rfl)
theorem dX0_ask_256 : decode cX0_ask 256 = .ok (.aload_n 0, 1) := dk_42 (dk_at dksX0_ask_11 3 rfl rfl)
theorem dX0_ask_257 : decode cX0_ask 257 = .ok (.dup, 1) := dk_89 (dk_at dksX0_ask_11 4 rfl rfl)
theorem dX0_ask_258 : decode cX0_ask 258 = .ok (.getfield 338, 3) := dk_180 1 82 (dk_at dksX0_ask_11 5 rfl rfl)
theorem dX0_ask_261 : decode cX0_ask 261 = .ok (.iconst 1, 1) := dk_4 (dk_at dksX0_ask_11 8 rfl rfl)
theorem dX0_ask_262 : decode cX0_ask 262 = .ok (.iadd, 1) := dk_96 (dk_at dksX0_ask_11 9 rfl rfl)
theorem dX0_ask_263 : decode cX0_ask 263 = .ok (.putfield 338, 3) := dk_181 1 82 (dk_at dksX0_ask_11 10 rfl rfl)
theorem dX0_ask_266 : decode cX0_ask 266 = .ok (.goto (-213), 3) := dk_167 255 43 (dk_at dksX0_ask_11 13 rfl rfl)
theorem dX0_ask_269 : decode cX0_ask 269 = .ok (.aload_n 2, 1) := dk_44 (dk_at dksX0_ask_11 16 rfl rfl)
theorem dX0_ask_270 : decode cX0_ask 270 = .ok (.invokevirtual 355, 3) := dk_182 1 99 (dk_at dksX0_ask_11 17 rfl rfl)
theorem dX0_ask_273 : decode cX0_ask 273 = .ok (.lreturn, 1) := dk_173 (dk_at dksX0_ask_11 20 rfl rfl)
abbrev cX0_image : ByteArray := prog_1_method_61_code
def yX0_image : MethodName := ⟨RX0, "image", "()I"⟩
def dkwX0_image_5 : List UInt8 := [167, 255, 172, 42, 42, 180, 0, 95, 42, 180, 1, 103, 184, 1, 109, 182, 1, 106, 42, 180, 1, 103, 172]
abbrev dktX0_image_5 : List UInt8 := dkwX0_image_5 ++ []
def dkwX0_image_4 : List UInt8 := [180, 0, 71, 180, 0, 227, 27, 51, 153, 0, 7, 4, 167, 0, 4, 3, 182, 1, 106, 132, 1, 1]
abbrev dktX0_image_4 : List UInt8 := dkwX0_image_4 ++ dktX0_image_5
def dkwX0_image_3 : List UInt8 := [180, 0, 221, 27, 46, 182, 1, 106, 42, 42, 180, 0, 71, 180, 0, 224, 27, 46, 182, 1, 106, 42, 42]
abbrev dktX0_image_3 : List UInt8 := dkwX0_image_3 ++ dktX0_image_4
def dkwX0_image_2 : List UInt8 := [27, 46, 182, 1, 106, 42, 42, 180, 0, 71, 180, 0, 218, 27, 46, 182, 1, 106, 42, 42, 180, 0, 71]
abbrev dktX0_image_2 : List UInt8 := dkwX0_image_2 ++ dktX0_image_3
def dkwX0_image_1 : List UInt8 := [180, 0, 177, 182, 1, 106, 3, 60, 27, 42, 182, 0, 149, 162, 0, 82, 42, 42, 180, 0, 71, 180, 0, 216]
abbrev dktX0_image_1 : List UInt8 := dkwX0_image_1 ++ dktX0_image_2
def dkwX0_image_0 : List UInt8 := [42, 3, 181, 1, 103, 42, 42, 180, 0, 71, 180, 0, 177, 16, 8, 122, 182, 1, 106, 42, 42, 180, 0, 71]
abbrev dktX0_image_0 : List UInt8 := dkwX0_image_0 ++ dktX0_image_1
theorem dksX0_image_0 : cX0_image.data.toList.drop 0 = dktX0_image_0 := by decide +kernel
theorem dksX0_image_1 : cX0_image.data.toList.drop 24 = dktX0_image_1 := dk_seg dksX0_image_0 24 rfl rfl
theorem dksX0_image_2 : cX0_image.data.toList.drop 48 = dktX0_image_2 := dk_seg dksX0_image_1 24 rfl rfl
theorem dksX0_image_3 : cX0_image.data.toList.drop 71 = dktX0_image_3 := dk_seg dksX0_image_2 23 rfl rfl
theorem dksX0_image_4 : cX0_image.data.toList.drop 94 = dktX0_image_4 := dk_seg dksX0_image_3 23 rfl rfl
theorem dksX0_image_5 : cX0_image.data.toList.drop 116 = dktX0_image_5 := dk_seg dksX0_image_4 22 rfl rfl
theorem dX0_image_0 : decode cX0_image 0 = .ok (.aload_n 0, 1) := dk_42 (dk_at dksX0_image_0 0 rfl rfl)
theorem dX0_image_1 : decode cX0_image 1 = .ok (.iconst 0, 1) := dk_3 (dk_at dksX0_image_0 1 rfl rfl)
theorem dX0_image_2 : decode cX0_image 2 = .ok (.putfield 359, 3) := dk_181 1 103 (dk_at dksX0_image_0 2 rfl rfl)
theorem dX0_image_5 : decode cX0_image 5 = .ok (.aload_n 0, 1) := dk_42 (dk_at dksX0_image_0 5 rfl rfl)
theorem dX0_image_6 : decode cX0_image 6 = .ok (.aload_n 0, 1) := dk_42 (dk_at dksX0_image_0 6 rfl rfl)
theorem dX0_image_7 : decode cX0_image 7 = .ok (.getfield 71, 3) := dk_180 0 71 (dk_at dksX0_image_0 7 rfl rfl)
theorem dX0_image_10 : decode cX0_image 10 = .ok (.getfield 177, 3) := dk_180 0 177 (dk_at dksX0_image_0 10 rfl rfl)
theorem dX0_image_13 : decode cX0_image 13 = .ok (.bipush 8, 2) := dk_16 8 (dk_at dksX0_image_0 13 rfl rfl)
theorem dX0_image_15 : decode cX0_image 15 = .ok (.ishr, 1) := dk_122 (dk_at dksX0_image_0 15 rfl rfl)
theorem dX0_image_16 : decode cX0_image 16 = .ok (.invokevirtual 362, 3) := dk_182 1 106 (dk_at dksX0_image_0 16 rfl rfl)
theorem dX0_image_19 : decode cX0_image 19 = .ok (.aload_n 0, 1) := dk_42 (dk_at dksX0_image_0 19 rfl rfl)
theorem dX0_image_20 : decode cX0_image 20 = .ok (.aload_n 0, 1) := dk_42 (dk_at dksX0_image_0 20 rfl rfl)
theorem dX0_image_21 : decode cX0_image 21 = .ok (.getfield 71, 3) := dk_180 0 71 (dk_at dksX0_image_0 21 rfl rfl)
theorem dX0_image_24 : decode cX0_image 24 = .ok (.getfield 177, 3) := dk_180 0 177 (dk_at dksX0_image_1 0 rfl rfl)
theorem dX0_image_27 : decode cX0_image 27 = .ok (.invokevirtual 362, 3) := dk_182 1 106 (dk_at dksX0_image_1 3 rfl rfl)
theorem dX0_image_30 : decode cX0_image 30 = .ok (.iconst 0, 1) := dk_3 (dk_at dksX0_image_1 6 rfl rfl)
theorem dX0_image_31 : decode cX0_image 31 = .ok (.istore_n 1, 1) := dk_60 (dk_at dksX0_image_1 7 rfl rfl)
theorem dX0_image_32 : decode cX0_image 32 = .ok (.iload_n 1, 1) := dk_27 (dk_at dksX0_image_1 8 rfl rfl)
theorem dX0_image_33 : decode cX0_image 33 = .ok (.aload_n 0, 1) := dk_42 (dk_at dksX0_image_1 9 rfl rfl)
theorem dX0_image_34 : decode cX0_image 34 = .ok (.invokevirtual 149, 3) := dk_182 0 149 (dk_at dksX0_image_1 10 rfl rfl)
theorem dX0_image_37 : decode cX0_image 37 = .ok (.if_icmp .ge 82, 3) := dk_162 0 82 (dk_at dksX0_image_1 13 rfl rfl)
theorem dX0_image_40 : decode cX0_image 40 = .ok (.aload_n 0, 1) := dk_42 (dk_at dksX0_image_1 16 rfl rfl)
theorem dX0_image_41 : decode cX0_image 41 = .ok (.aload_n 0, 1) := dk_42 (dk_at dksX0_image_1 17 rfl rfl)
theorem dX0_image_42 : decode cX0_image 42 = .ok (.getfield 71, 3) := dk_180 0 71 (dk_at dksX0_image_1 18 rfl rfl)
theorem dX0_image_45 : decode cX0_image 45 = .ok (.getfield 216, 3) := dk_180 0 216 (dk_at dksX0_image_1 21 rfl rfl)
theorem dX0_image_48 : decode cX0_image 48 = .ok (.iload_n 1, 1) := dk_27 (dk_at dksX0_image_2 0 rfl rfl)
theorem dX0_image_49 : decode cX0_image 49 = .ok (.iaload, 1) := dk_46 (dk_at dksX0_image_2 1 rfl rfl)
theorem dX0_image_50 : decode cX0_image 50 = .ok (.invokevirtual 362, 3) := dk_182 1 106 (dk_at dksX0_image_2 2 rfl rfl)
theorem dX0_image_53 : decode cX0_image 53 = .ok (.aload_n 0, 1) := dk_42 (dk_at dksX0_image_2 5 rfl rfl)
theorem dX0_image_54 : decode cX0_image 54 = .ok (.aload_n 0, 1) := dk_42 (dk_at dksX0_image_2 6 rfl rfl)
theorem dX0_image_55 : decode cX0_image 55 = .ok (.getfield 71, 3) := dk_180 0 71 (dk_at dksX0_image_2 7 rfl rfl)
theorem dX0_image_58 : decode cX0_image 58 = .ok (.getfield 218, 3) := dk_180 0 218 (dk_at dksX0_image_2 10 rfl rfl)
theorem dX0_image_61 : decode cX0_image 61 = .ok (.iload_n 1, 1) := dk_27 (dk_at dksX0_image_2 13 rfl rfl)
theorem dX0_image_62 : decode cX0_image 62 = .ok (.iaload, 1) := dk_46 (dk_at dksX0_image_2 14 rfl rfl)
theorem dX0_image_63 : decode cX0_image 63 = .ok (.invokevirtual 362, 3) := dk_182 1 106 (dk_at dksX0_image_2 15 rfl rfl)
theorem dX0_image_66 : decode cX0_image 66 = .ok (.aload_n 0, 1) := dk_42 (dk_at dksX0_image_2 18 rfl rfl)
theorem dX0_image_67 : decode cX0_image 67 = .ok (.aload_n 0, 1) := dk_42 (dk_at dksX0_image_2 19 rfl rfl)
theorem dX0_image_68 : decode cX0_image 68 = .ok (.getfield 71, 3) := dk_180 0 71 (dk_at dksX0_image_2 20 rfl rfl)
theorem dX0_image_71 : decode cX0_image 71 = .ok (.getfield 221, 3) := dk_180 0 221 (dk_at dksX0_image_3 0 rfl rfl)
theorem dX0_image_74 : decode cX0_image 74 = .ok (.iload_n 1, 1) := dk_27 (dk_at dksX0_image_3 3 rfl rfl)
theorem dX0_image_75 : decode cX0_image 75 = .ok (.iaload, 1) := dk_46 (dk_at dksX0_image_3 4 rfl rfl)
theorem dX0_image_76 : decode cX0_image 76 = .ok (.invokevirtual 362, 3) := dk_182 1 106 (dk_at dksX0_image_3 5 rfl rfl)
theorem dX0_image_79 : decode cX0_image 79 = .ok (.aload_n 0, 1) := dk_42 (dk_at dksX0_image_3 8 rfl rfl)
theorem dX0_image_80 : decode cX0_image 80 = .ok (.aload_n 0, 1) := dk_42 (dk_at dksX0_image_3 9 rfl rfl)
theorem dX0_image_81 : decode cX0_image 81 = .ok (.getfield 71, 3) := dk_180 0 71 (dk_at dksX0_image_3 10 rfl rfl)
theorem dX0_image_84 : decode cX0_image 84 = .ok (.getfield 224, 3) := dk_180 0 224 (dk_at dksX0_image_3 13 rfl rfl)
theorem dX0_image_87 : decode cX0_image 87 = .ok (.iload_n 1, 1) := dk_27 (dk_at dksX0_image_3 16 rfl rfl)
theorem dX0_image_88 : decode cX0_image 88 = .ok (.iaload, 1) := dk_46 (dk_at dksX0_image_3 17 rfl rfl)
theorem dX0_image_89 : decode cX0_image 89 = .ok (.invokevirtual 362, 3) := dk_182 1 106 (dk_at dksX0_image_3 18 rfl rfl)
theorem dX0_image_92 : decode cX0_image 92 = .ok (.aload_n 0, 1) := dk_42 (dk_at dksX0_image_3 21 rfl rfl)
theorem dX0_image_93 : decode cX0_image 93 = .ok (.aload_n 0, 1) := dk_42 (dk_at dksX0_image_3 22 rfl rfl)
theorem dX0_image_94 : decode cX0_image 94 = .ok (.getfield 71, 3) := dk_180 0 71 (dk_at dksX0_image_4 0 rfl rfl)
theorem dX0_image_97 : decode cX0_image 97 = .ok (.getfield 227, 3) := dk_180 0 227 (dk_at dksX0_image_4 3 rfl rfl)
theorem dX0_image_100 : decode cX0_image 100 = .ok (.iload_n 1, 1) := dk_27 (dk_at dksX0_image_4 6 rfl rfl)
theorem dX0_image_101 : decode cX0_image 101 = .ok (.baload, 1) := dk_51 (dk_at dksX0_image_4 7 rfl rfl)
theorem dX0_image_102 : decode cX0_image 102 = .ok (.ifCond .eq 7, 3) := dk_153 0 7 (dk_at dksX0_image_4 8 rfl rfl)
theorem dX0_image_105 : decode cX0_image 105 = .ok (.iconst 1, 1) := dk_4 (dk_at dksX0_image_4 11 rfl rfl)
theorem dX0_image_106 : decode cX0_image 106 = .ok (.goto 4, 3) := dk_167 0 4 (dk_at dksX0_image_4 12 rfl rfl)
theorem dX0_image_109 : decode cX0_image 109 = .ok (.iconst 0, 1) := dk_3 (dk_at dksX0_image_4 15 rfl rfl)
theorem dX0_image_110 : decode cX0_image 110 = .ok (.invokevirtual 362, 3) := dk_182 1 106 (dk_at dksX0_image_4 16 rfl rfl)
theorem dX0_image_113 : decode cX0_image 113 = .ok (.iinc 1 1, 3) := dk_132 1 1 (dk_at dksX0_image_4 19 rfl rfl)
theorem dX0_image_116 : decode cX0_image 116 = .ok (.goto (-84), 3) := dk_167 255 172 (dk_at dksX0_image_5 0 rfl rfl)
theorem dX0_image_119 : decode cX0_image 119 = .ok (.aload_n 0, 1) := dk_42 (dk_at dksX0_image_5 3 rfl rfl)
theorem dX0_image_120 : decode cX0_image 120 = .ok (.aload_n 0, 1) := dk_42 (dk_at dksX0_image_5 4 rfl rfl)
theorem dX0_image_121 : decode cX0_image 121 = .ok (.getfield 95, 3) := dk_180 0 95 (dk_at dksX0_image_5 5 rfl rfl)
theorem dX0_image_124 : decode cX0_image 124 = .ok (.aload_n 0, 1) := dk_42 (dk_at dksX0_image_5 8 rfl rfl)
theorem dX0_image_125 : decode cX0_image 125 = .ok (.getfield 359, 3) := dk_180 1 103 (dk_at dksX0_image_5 9 rfl rfl)
theorem dX0_image_128 : decode cX0_image 128 = .ok (.invokestatic 365, 3) := dk_184 1 109 (dk_at dksX0_image_5 12 rfl rfl)
theorem dX0_image_131 : decode cX0_image 131 = .ok (.invokevirtual 362, 3) := dk_182 1 106 (dk_at dksX0_image_5 15 rfl rfl)
theorem dX0_image_134 : decode cX0_image 134 = .ok (.aload_n 0, 1) := dk_42 (dk_at dksX0_image_5 18 rfl rfl)
theorem dX0_image_135 : decode cX0_image 135 = .ok (.getfield 359, 3) := dk_180 1 103 (dk_at dksX0_image_5 19 rfl rfl)
theorem dX0_image_138 : decode cX0_image 138 = .ok (.ireturn, 1) := dk_172 (dk_at dksX0_image_5 22 rfl rfl)
abbrev cX0_writes : ByteArray := prog_1_method_59_code
def yX0_writes : MethodName := ⟨RX0, "writes", "(I)V"⟩
def dkwX0_writes_0 : List UInt8 := [42, 180, 0, 95, 42, 89, 180, 1, 103, 90, 4, 96, 181, 1, 103, 27, 145, 84, 177]
abbrev dktX0_writes_0 : List UInt8 := dkwX0_writes_0 ++ []
theorem dksX0_writes_0 : cX0_writes.data.toList.drop 0 = dktX0_writes_0 := by decide +kernel
theorem dX0_writes_0 : decode cX0_writes 0 = .ok (.aload_n 0, 1) := dk_42 (dk_at dksX0_writes_0 0 rfl rfl)
theorem dX0_writes_1 : decode cX0_writes 1 = .ok (.getfield 95, 3) := dk_180 0 95 (dk_at dksX0_writes_0 1 rfl rfl)
theorem dX0_writes_4 : decode cX0_writes 4 = .ok (.aload_n 0, 1) := dk_42 (dk_at dksX0_writes_0 4 rfl rfl)
theorem dX0_writes_5 : decode cX0_writes 5 = .ok (.dup, 1) := dk_89 (dk_at dksX0_writes_0 5 rfl rfl)
theorem dX0_writes_6 : decode cX0_writes 6 = .ok (.getfield 359, 3) := dk_180 1 103 (dk_at dksX0_writes_0 6 rfl rfl)
theorem dX0_writes_9 : decode cX0_writes 9 = .ok (.dup_x1, 1) := dk_90 (dk_at dksX0_writes_0 9 rfl rfl)
theorem dX0_writes_10 : decode cX0_writes 10 = .ok (.iconst 1, 1) := dk_4 (dk_at dksX0_writes_0 10 rfl rfl)
theorem dX0_writes_11 : decode cX0_writes 11 = .ok (.iadd, 1) := dk_96 (dk_at dksX0_writes_0 11 rfl rfl)
theorem dX0_writes_12 : decode cX0_writes 12 = .ok (.putfield 359, 3) := dk_181 1 103 (dk_at dksX0_writes_0 12 rfl rfl)
theorem dX0_writes_15 : decode cX0_writes 15 = .ok (.iload_n 1, 1) := dk_27 (dk_at dksX0_writes_0 15 rfl rfl)
theorem dX0_writes_16 : decode cX0_writes 16 = .ok (.i2b, 1) := dk_145 (dk_at dksX0_writes_0 16 rfl rfl)
theorem dX0_writes_17 : decode cX0_writes 17 = .ok (.bastore, 1) := dk_84 (dk_at dksX0_writes_0 17 rfl rfl)
theorem dX0_writes_18 : decode cX0_writes 18 = .ok (.return_, 1) := dk_177 (dk_at dksX0_writes_0 18 rfl rfl)
abbrev cX0_check : ByteArray := prog_1_method_60_code
def yX0_check : MethodName := ⟨RX0, "check", "([BI)I"⟩
def dkwX0_check_1 : List UInt8 := [112, 61, 132, 3, 1, 167, 255, 232, 28, 172]
abbrev dktX0_check_1 : List UInt8 := dkwX0_check_1 ++ []
def dkwX0_check_0 : List UInt8 := [16, 113, 61, 3, 62, 29, 27, 162, 0, 25, 6, 28, 104, 42, 29, 51, 17, 0, 255, 126, 96, 17, 0, 251]
abbrev dktX0_check_0 : List UInt8 := dkwX0_check_0 ++ dktX0_check_1
theorem dksX0_check_0 : cX0_check.data.toList.drop 0 = dktX0_check_0 := by decide +kernel
theorem dksX0_check_1 : cX0_check.data.toList.drop 24 = dktX0_check_1 := dk_seg dksX0_check_0 24 rfl rfl
theorem dX0_check_0 : decode cX0_check 0 = .ok (.bipush 113, 2) := dk_16 113 (dk_at dksX0_check_0 0 rfl rfl)
theorem dX0_check_2 : decode cX0_check 2 = .ok (.istore_n 2, 1) := dk_61 (dk_at dksX0_check_0 2 rfl rfl)
theorem dX0_check_3 : decode cX0_check 3 = .ok (.iconst 0, 1) := dk_3 (dk_at dksX0_check_0 3 rfl rfl)
theorem dX0_check_4 : decode cX0_check 4 = .ok (.istore_n 3, 1) := dk_62 (dk_at dksX0_check_0 4 rfl rfl)
theorem dX0_check_5 : decode cX0_check 5 = .ok (.iload_n 3, 1) := dk_29 (dk_at dksX0_check_0 5 rfl rfl)
theorem dX0_check_6 : decode cX0_check 6 = .ok (.iload_n 1, 1) := dk_27 (dk_at dksX0_check_0 6 rfl rfl)
theorem dX0_check_7 : decode cX0_check 7 = .ok (.if_icmp .ge 25, 3) := dk_162 0 25 (dk_at dksX0_check_0 7 rfl rfl)
theorem dX0_check_10 : decode cX0_check 10 = .ok (.iconst 3, 1) := dk_6 (dk_at dksX0_check_0 10 rfl rfl)
theorem dX0_check_11 : decode cX0_check 11 = .ok (.iload_n 2, 1) := dk_28 (dk_at dksX0_check_0 11 rfl rfl)
theorem dX0_check_12 : decode cX0_check 12 = .ok (.imul, 1) := dk_104 (dk_at dksX0_check_0 12 rfl rfl)
theorem dX0_check_13 : decode cX0_check 13 = .ok (.aload_n 0, 1) := dk_42 (dk_at dksX0_check_0 13 rfl rfl)
theorem dX0_check_14 : decode cX0_check 14 = .ok (.iload_n 3, 1) := dk_29 (dk_at dksX0_check_0 14 rfl rfl)
theorem dX0_check_15 : decode cX0_check 15 = .ok (.baload, 1) := dk_51 (dk_at dksX0_check_0 15 rfl rfl)
theorem dX0_check_16 : decode cX0_check 16 = .ok (.sipush 255, 3) := dk_17 0 255 (dk_at dksX0_check_0 16 rfl rfl)
theorem dX0_check_19 : decode cX0_check 19 = .ok (.iand, 1) := dk_126 (dk_at dksX0_check_0 19 rfl rfl)
theorem dX0_check_20 : decode cX0_check 20 = .ok (.iadd, 1) := dk_96 (dk_at dksX0_check_0 20 rfl rfl)
theorem dX0_check_21 : decode cX0_check 21 = .ok (.sipush 251, 3) := dk_17 0 251 (dk_at dksX0_check_0 21 rfl rfl)
theorem dX0_check_24 : decode cX0_check 24 = .ok (.irem, 1) := dk_112 (dk_at dksX0_check_1 0 rfl rfl)
theorem dX0_check_25 : decode cX0_check 25 = .ok (.istore_n 2, 1) := dk_61 (dk_at dksX0_check_1 1 rfl rfl)
theorem dX0_check_26 : decode cX0_check 26 = .ok (.iinc 3 1, 3) := dk_132 3 1 (dk_at dksX0_check_1 2 rfl rfl)
theorem dX0_check_29 : decode cX0_check 29 = .ok (.goto (-24), 3) := dk_167 255 232 (dk_at dksX0_check_1 5 rfl rfl)
theorem dX0_check_32 : decode cX0_check 32 = .ok (.iload_n 2, 1) := dk_28 (dk_at dksX0_check_1 8 rfl rfl)
theorem dX0_check_33 : decode cX0_check 33 = .ok (.ireturn, 1) := dk_172 (dk_at dksX0_check_1 9 rfl rfl)
abbrev cX0_octet : ByteArray := prog_1_method_62_code
def yX0_octet : MethodName := ⟨RX0, "octet", "(I)I"⟩
def dkwX0_octet_1 : List UInt8 := [17, 0, 255, 126, 172]
abbrev dktX0_octet_1 : List UInt8 := dkwX0_octet_1 ++ []
def dkwX0_octet_0 : List UInt8 := [27, 155, 0, 11, 27, 42, 180, 1, 103, 161, 0, 7, 2, 167, 0, 13, 42, 180, 0, 95, 27, 51]
abbrev dktX0_octet_0 : List UInt8 := dkwX0_octet_0 ++ dktX0_octet_1
theorem dksX0_octet_0 : cX0_octet.data.toList.drop 0 = dktX0_octet_0 := by decide +kernel
theorem dksX0_octet_1 : cX0_octet.data.toList.drop 22 = dktX0_octet_1 := dk_seg dksX0_octet_0 22 rfl rfl
theorem dX0_octet_0 : decode cX0_octet 0 = .ok (.iload_n 1, 1) := dk_27 (dk_at dksX0_octet_0 0 rfl rfl)
theorem dX0_octet_1 : decode cX0_octet 1 = .ok (.ifCond .lt 11, 3) := dk_155 0 11 (dk_at dksX0_octet_0 1 rfl rfl)
theorem dX0_octet_4 : decode cX0_octet 4 = .ok (.iload_n 1, 1) := dk_27 (dk_at dksX0_octet_0 4 rfl rfl)
theorem dX0_octet_5 : decode cX0_octet 5 = .ok (.aload_n 0, 1) := dk_42 (dk_at dksX0_octet_0 5 rfl rfl)
theorem dX0_octet_6 : decode cX0_octet 6 = .ok (.getfield 359, 3) := dk_180 1 103 (dk_at dksX0_octet_0 6 rfl rfl)
theorem dX0_octet_9 : decode cX0_octet 9 = .ok (.if_icmp .lt 7, 3) := dk_161 0 7 (dk_at dksX0_octet_0 9 rfl rfl)
theorem dX0_octet_12 : decode cX0_octet 12 = .ok (.iconst (-1), 1) := dk_2 (dk_at dksX0_octet_0 12 rfl rfl)
theorem dX0_octet_13 : decode cX0_octet 13 = .ok (.goto 13, 3) := dk_167 0 13 (dk_at dksX0_octet_0 13 rfl rfl)
theorem dX0_octet_16 : decode cX0_octet 16 = .ok (.aload_n 0, 1) := dk_42 (dk_at dksX0_octet_0 16 rfl rfl)
theorem dX0_octet_17 : decode cX0_octet 17 = .ok (.getfield 95, 3) := dk_180 0 95 (dk_at dksX0_octet_0 17 rfl rfl)
theorem dX0_octet_20 : decode cX0_octet 20 = .ok (.iload_n 1, 1) := dk_27 (dk_at dksX0_octet_0 20 rfl rfl)
theorem dX0_octet_21 : decode cX0_octet 21 = .ok (.baload, 1) := dk_51 (dk_at dksX0_octet_0 21 rfl rfl)
theorem dX0_octet_22 : decode cX0_octet 22 = .ok (.sipush 255, 3) := dk_17 0 255 (dk_at dksX0_octet_1 0 rfl rfl)
theorem dX0_octet_25 : decode cX0_octet 25 = .ok (.iand, 1) := dk_126 (dk_at dksX0_octet_1 3 rfl rfl)
theorem dX0_octet_26 : decode cX0_octet 26 = .ok (.ireturn, 1) := dk_172 (dk_at dksX0_octet_1 4 rfl rfl)
abbrev cX0_on : ByteArray := prog_1_method_64_code
def yX0_on : MethodName := ⟨RX0, "on", "()Z"⟩
def dkwX0_on_6 : List UInt8 := [42, 180, 0, 71, 42, 180, 0, 75, 182, 1, 21, 87, 42, 3, 181, 0, 128, 4, 172]
abbrev dktX0_on_6 : List UInt8 := dkwX0_on_6 ++ []
def dkwX0_on_5 : List UInt8 := [132, 4, 1, 167, 255, 227, 29, 154, 0, 17, 42, 8, 182, 0, 101, 155, 0, 7, 4, 167, 0, 4, 3, 172]
abbrev dktX0_on_5 : List UInt8 := dkwX0_on_5 ++ dktX0_on_6
def dkwX0_on_4 : List UInt8 := [182, 0, 149, 162, 0, 26, 29, 153, 0, 22, 42, 21, 4, 5, 8, 21, 4, 104, 96, 182, 1, 113, 62]
abbrev dktX0_on_4 : List UInt8 := dkwX0_on_4 ++ dktX0_on_5
def dkwX0_on_3 : List UInt8 := [180, 0, 71, 182, 1, 21, 28, 181, 0, 177, 42, 180, 0, 75, 3, 181, 0, 197, 3, 54, 4, 21, 4, 42]
abbrev dktX0_on_3 : List UInt8 := dkwX0_on_3 ++ dktX0_on_4
def dkwX0_on_2 : List UInt8 := [184, 1, 109, 160, 0, 14, 28, 17, 3, 231, 163, 0, 7, 4, 167, 0, 4, 3, 62, 42, 180, 0, 75, 42]
abbrev dktX0_on_2 : List UInt8 := dkwX0_on_2 ++ dktX0_on_3
def dkwX0_on_1 : List UInt8 := [182, 0, 149, 104, 96, 160, 0, 34, 42, 27, 4, 100, 182, 1, 57, 42, 180, 0, 37, 27, 4, 100]
abbrev dktX0_on_1 : List UInt8 := dkwX0_on_1 ++ dktX0_on_2
def dkwX0_on_0 : List UInt8 := [42, 182, 0, 112, 60, 42, 3, 182, 1, 57, 16, 8, 120, 42, 4, 182, 1, 57, 128, 61, 27, 6, 8, 42]
abbrev dktX0_on_0 : List UInt8 := dkwX0_on_0 ++ dktX0_on_1
theorem dksX0_on_0 : cX0_on.data.toList.drop 0 = dktX0_on_0 := by decide +kernel
theorem dksX0_on_1 : cX0_on.data.toList.drop 24 = dktX0_on_1 := dk_seg dksX0_on_0 24 rfl rfl
theorem dksX0_on_2 : cX0_on.data.toList.drop 46 = dktX0_on_2 := dk_seg dksX0_on_1 22 rfl rfl
theorem dksX0_on_3 : cX0_on.data.toList.drop 70 = dktX0_on_3 := dk_seg dksX0_on_2 24 rfl rfl
theorem dksX0_on_4 : cX0_on.data.toList.drop 94 = dktX0_on_4 := dk_seg dksX0_on_3 24 rfl rfl
theorem dksX0_on_5 : cX0_on.data.toList.drop 117 = dktX0_on_5 := dk_seg dksX0_on_4 23 rfl rfl
theorem dksX0_on_6 : cX0_on.data.toList.drop 141 = dktX0_on_6 := dk_seg dksX0_on_5 24 rfl rfl
theorem dX0_on_0 : decode cX0_on 0 = .ok (.aload_n 0, 1) := dk_42 (dk_at dksX0_on_0 0 rfl rfl)
theorem dX0_on_1 : decode cX0_on 1 = .ok (.invokevirtual 112, 3) := dk_182 0 112 (dk_at dksX0_on_0 1 rfl rfl)
theorem dX0_on_4 : decode cX0_on 4 = .ok (.istore_n 1, 1) := dk_60 (dk_at dksX0_on_0 4 rfl rfl)
theorem dX0_on_5 : decode cX0_on 5 = .ok (.aload_n 0, 1) := dk_42 (dk_at dksX0_on_0 5 rfl rfl)
theorem dX0_on_6 : decode cX0_on 6 = .ok (.iconst 0, 1) := dk_3 (dk_at dksX0_on_0 6 rfl rfl)
theorem dX0_on_7 : decode cX0_on 7 = .ok (.invokevirtual 313, 3) := dk_182 1 57 (dk_at dksX0_on_0 7 rfl rfl)
theorem dX0_on_10 : decode cX0_on 10 = .ok (.bipush 8, 2) := dk_16 8 (dk_at dksX0_on_0 10 rfl rfl)
theorem dX0_on_12 : decode cX0_on 12 = .ok (.ishl, 1) := dk_120 (dk_at dksX0_on_0 12 rfl rfl)
theorem dX0_on_13 : decode cX0_on 13 = .ok (.aload_n 0, 1) := dk_42 (dk_at dksX0_on_0 13 rfl rfl)
theorem dX0_on_14 : decode cX0_on 14 = .ok (.iconst 1, 1) := dk_4 (dk_at dksX0_on_0 14 rfl rfl)
theorem dX0_on_15 : decode cX0_on 15 = .ok (.invokevirtual 313, 3) := dk_182 1 57 (dk_at dksX0_on_0 15 rfl rfl)
theorem dX0_on_18 : decode cX0_on 18 = .ok (.ior, 1) := dk_128 (dk_at dksX0_on_0 18 rfl rfl)
theorem dX0_on_19 : decode cX0_on 19 = .ok (.istore_n 2, 1) := dk_61 (dk_at dksX0_on_0 19 rfl rfl)
theorem dX0_on_20 : decode cX0_on 20 = .ok (.iload_n 1, 1) := dk_27 (dk_at dksX0_on_0 20 rfl rfl)
theorem dX0_on_21 : decode cX0_on 21 = .ok (.iconst 3, 1) := dk_6 (dk_at dksX0_on_0 21 rfl rfl)
theorem dX0_on_22 : decode cX0_on 22 = .ok (.iconst 5, 1) := dk_8 (dk_at dksX0_on_0 22 rfl rfl)
theorem dX0_on_23 : decode cX0_on 23 = .ok (.aload_n 0, 1) := dk_42 (dk_at dksX0_on_0 23 rfl rfl)
theorem dX0_on_24 : decode cX0_on 24 = .ok (.invokevirtual 149, 3) := dk_182 0 149 (dk_at dksX0_on_1 0 rfl rfl)
theorem dX0_on_27 : decode cX0_on 27 = .ok (.imul, 1) := dk_104 (dk_at dksX0_on_1 3 rfl rfl)
theorem dX0_on_28 : decode cX0_on 28 = .ok (.iadd, 1) := dk_96 (dk_at dksX0_on_1 4 rfl rfl)
theorem dX0_on_29 : decode cX0_on 29 = .ok (.if_icmp .ne 34, 3) := dk_160 0 34 (dk_at dksX0_on_1 5 rfl rfl)
theorem dX0_on_32 : decode cX0_on 32 = .ok (.aload_n 0, 1) := dk_42 (dk_at dksX0_on_1 8 rfl rfl)
theorem dX0_on_33 : decode cX0_on 33 = .ok (.iload_n 1, 1) := dk_27 (dk_at dksX0_on_1 9 rfl rfl)
theorem dX0_on_34 : decode cX0_on 34 = .ok (.iconst 1, 1) := dk_4 (dk_at dksX0_on_1 10 rfl rfl)
theorem dX0_on_35 : decode cX0_on 35 = .ok (.isub, 1) := dk_100 (dk_at dksX0_on_1 11 rfl rfl)
theorem dX0_on_36 : decode cX0_on 36 = .ok (.invokevirtual 313, 3) := dk_182 1 57 (dk_at dksX0_on_1 12 rfl rfl)
theorem dX0_on_39 : decode cX0_on 39 = .ok (.aload_n 0, 1) := dk_42 (dk_at dksX0_on_1 15 rfl rfl)
theorem dX0_on_40 : decode cX0_on 40 = .ok (.getfield 37, 3) := dk_180 0 37 (dk_at dksX0_on_1 16 rfl rfl)
theorem dX0_on_43 : decode cX0_on 43 = .ok (.iload_n 1, 1) := dk_27 (dk_at dksX0_on_1 19 rfl rfl)
theorem dX0_on_44 : decode cX0_on 44 = .ok (.iconst 1, 1) := dk_4 (dk_at dksX0_on_1 20 rfl rfl)
theorem dX0_on_45 : decode cX0_on 45 = .ok (.isub, 1) := dk_100 (dk_at dksX0_on_1 21 rfl rfl)
theorem dX0_on_46 : decode cX0_on 46 = .ok (.invokestatic 365, 3) := dk_184 1 109 (dk_at dksX0_on_2 0 rfl rfl)
theorem dX0_on_49 : decode cX0_on 49 = .ok (.if_icmp .ne 14, 3) := dk_160 0 14 (dk_at dksX0_on_2 3 rfl rfl)
theorem dX0_on_52 : decode cX0_on 52 = .ok (.iload_n 2, 1) := dk_28 (dk_at dksX0_on_2 6 rfl rfl)
theorem dX0_on_53 : decode cX0_on 53 = .ok (.sipush 999, 3) := dk_17 3 231 (dk_at dksX0_on_2 7 rfl rfl)
theorem dX0_on_56 : decode cX0_on 56 = .ok (.if_icmp .gt 7, 3) := dk_163 0 7 (dk_at dksX0_on_2 10 rfl rfl)
theorem dX0_on_59 : decode cX0_on 59 = .ok (.iconst 1, 1) := dk_4 (dk_at dksX0_on_2 13 rfl rfl)
theorem dX0_on_60 : decode cX0_on 60 = .ok (.goto 4, 3) := dk_167 0 4 (dk_at dksX0_on_2 14 rfl rfl)
theorem dX0_on_63 : decode cX0_on 63 = .ok (.iconst 0, 1) := dk_3 (dk_at dksX0_on_2 17 rfl rfl)
theorem dX0_on_64 : decode cX0_on 64 = .ok (.istore_n 3, 1) := dk_62 (dk_at dksX0_on_2 18 rfl rfl)
theorem dX0_on_65 : decode cX0_on 65 = .ok (.aload_n 0, 1) := dk_42 (dk_at dksX0_on_2 19 rfl rfl)
theorem dX0_on_66 : decode cX0_on 66 = .ok (.getfield 75, 3) := dk_180 0 75 (dk_at dksX0_on_2 20 rfl rfl)
theorem dX0_on_69 : decode cX0_on 69 = .ok (.aload_n 0, 1) := dk_42 (dk_at dksX0_on_2 23 rfl rfl)
theorem dX0_on_70 : decode cX0_on 70 = .ok (.getfield 71, 3) := dk_180 0 71 (dk_at dksX0_on_3 0 rfl rfl)
theorem dX0_on_73 : decode cX0_on 73 = .ok (.invokevirtual 277, 3) := dk_182 1 21 (dk_at dksX0_on_3 3 rfl rfl)
theorem dX0_on_76 : decode cX0_on 76 = .ok (.iload_n 2, 1) := dk_28 (dk_at dksX0_on_3 6 rfl rfl)
theorem dX0_on_77 : decode cX0_on 77 = .ok (.putfield 177, 3) := dk_181 0 177 (dk_at dksX0_on_3 7 rfl rfl)
theorem dX0_on_80 : decode cX0_on 80 = .ok (.aload_n 0, 1) := dk_42 (dk_at dksX0_on_3 10 rfl rfl)
theorem dX0_on_81 : decode cX0_on 81 = .ok (.getfield 75, 3) := dk_180 0 75 (dk_at dksX0_on_3 11 rfl rfl)
theorem dX0_on_84 : decode cX0_on 84 = .ok (.iconst 0, 1) := dk_3 (dk_at dksX0_on_3 14 rfl rfl)
theorem dX0_on_85 : decode cX0_on 85 = .ok (.putfield 197, 3) := dk_181 0 197 (dk_at dksX0_on_3 15 rfl rfl)
theorem dX0_on_88 : decode cX0_on 88 = .ok (.iconst 0, 1) := dk_3 (dk_at dksX0_on_3 18 rfl rfl)
theorem dX0_on_89 : decode cX0_on 89 = .ok (.istore 4, 2) := dk_54 4 (dk_at dksX0_on_3 19 rfl rfl)
theorem dX0_on_91 : decode cX0_on 91 = .ok (.iload 4, 2) := dk_21 4 (dk_at dksX0_on_3 21 rfl rfl)
theorem dX0_on_93 : decode cX0_on 93 = .ok (.aload_n 0, 1) := dk_42 (dk_at dksX0_on_3 23 rfl rfl)
theorem dX0_on_94 : decode cX0_on 94 = .ok (.invokevirtual 149, 3) := dk_182 0 149 (dk_at dksX0_on_4 0 rfl rfl)
theorem dX0_on_97 : decode cX0_on 97 = .ok (.if_icmp .ge 26, 3) := dk_162 0 26 (dk_at dksX0_on_4 3 rfl rfl)
theorem dX0_on_100 : decode cX0_on 100 = .ok (.iload_n 3, 1) := dk_29 (dk_at dksX0_on_4 6 rfl rfl)
theorem dX0_on_101 : decode cX0_on 101 = .ok (.ifCond .eq 22, 3) := dk_153 0 22 (dk_at dksX0_on_4 7 rfl rfl)
theorem dX0_on_104 : decode cX0_on 104 = .ok (.aload_n 0, 1) := dk_42 (dk_at dksX0_on_4 10 rfl rfl)
theorem dX0_on_105 : decode cX0_on 105 = .ok (.iload 4, 2) := dk_21 4 (dk_at dksX0_on_4 11 rfl rfl)
theorem dX0_on_107 : decode cX0_on 107 = .ok (.iconst 2, 1) := dk_5 (dk_at dksX0_on_4 13 rfl rfl)
theorem dX0_on_108 : decode cX0_on 108 = .ok (.iconst 5, 1) := dk_8 (dk_at dksX0_on_4 14 rfl rfl)
theorem dX0_on_109 : decode cX0_on 109 = .ok (.iload 4, 2) := dk_21 4 (dk_at dksX0_on_4 15 rfl rfl)
theorem dX0_on_111 : decode cX0_on 111 = .ok (.imul, 1) := dk_104 (dk_at dksX0_on_4 17 rfl rfl)
theorem dX0_on_112 : decode cX0_on 112 = .ok (.iadd, 1) := dk_96 (dk_at dksX0_on_4 18 rfl rfl)
theorem dX0_on_113 : decode cX0_on 113 = .ok (.invokevirtual 369, 3) := dk_182 1 113 (dk_at dksX0_on_4 19 rfl rfl)
theorem dX0_on_116 : decode cX0_on 116 = .ok (.istore_n 3, 1) := dk_62 (dk_at dksX0_on_4 22 rfl rfl)
theorem dX0_on_117 : decode cX0_on 117 = .ok (.iinc 4 1, 3) := dk_132 4 1 (dk_at dksX0_on_5 0 rfl rfl)
theorem dX0_on_120 : decode cX0_on 120 = .ok (.goto (-29), 3) := dk_167 255 227 (dk_at dksX0_on_5 3 rfl rfl)
theorem dX0_on_123 : decode cX0_on 123 = .ok (.iload_n 3, 1) := dk_29 (dk_at dksX0_on_5 6 rfl rfl)
theorem dX0_on_124 : decode cX0_on 124 = .ok (.ifCond .ne 17, 3) := dk_154 0 17 (dk_at dksX0_on_5 7 rfl rfl)
theorem dX0_on_127 : decode cX0_on 127 = .ok (.aload_n 0, 1) := dk_42 (dk_at dksX0_on_5 10 rfl rfl)
theorem dX0_on_128 : decode cX0_on 128 = .ok (.iconst 5, 1) := dk_8 (dk_at dksX0_on_5 11 rfl rfl)
theorem dX0_on_129 : decode cX0_on 129 = .ok (.invokevirtual 101, 3) := dk_182 0 101 (dk_at dksX0_on_5 12 rfl rfl)
theorem dX0_on_132 : decode cX0_on 132 = .ok (.ifCond .lt 7, 3) := dk_155 0 7 (dk_at dksX0_on_5 15 rfl rfl)
theorem dX0_on_135 : decode cX0_on 135 = .ok (.iconst 1, 1) := dk_4 (dk_at dksX0_on_5 18 rfl rfl)
theorem dX0_on_136 : decode cX0_on 136 = .ok (.goto 4, 3) := dk_167 0 4 (dk_at dksX0_on_5 19 rfl rfl)
theorem dX0_on_139 : decode cX0_on 139 = .ok (.iconst 0, 1) := dk_3 (dk_at dksX0_on_5 22 rfl rfl)
theorem dX0_on_140 : decode cX0_on 140 = .ok (.ireturn, 1) := dk_172 (dk_at dksX0_on_5 23 rfl rfl)
theorem dX0_on_141 : decode cX0_on 141 = .ok (.aload_n 0, 1) := dk_42 (dk_at dksX0_on_6 0 rfl rfl)
theorem dX0_on_142 : decode cX0_on 142 = .ok (.getfield 71, 3) := dk_180 0 71 (dk_at dksX0_on_6 1 rfl rfl)
theorem dX0_on_145 : decode cX0_on 145 = .ok (.aload_n 0, 1) := dk_42 (dk_at dksX0_on_6 4 rfl rfl)
theorem dX0_on_146 : decode cX0_on 146 = .ok (.getfield 75, 3) := dk_180 0 75 (dk_at dksX0_on_6 5 rfl rfl)
theorem dX0_on_149 : decode cX0_on 149 = .ok (.invokevirtual 277, 3) := dk_182 1 21 (dk_at dksX0_on_6 8 rfl rfl)
theorem dX0_on_152 : decode cX0_on 152 = .ok (.pop, 1) := dk_87 (dk_at dksX0_on_6 11 rfl rfl)
theorem dX0_on_153 : decode cX0_on 153 = .ok (.aload_n 0, 1) := dk_42 (dk_at dksX0_on_6 12 rfl rfl)
theorem dX0_on_154 : decode cX0_on 154 = .ok (.iconst 0, 1) := dk_3 (dk_at dksX0_on_6 13 rfl rfl)
theorem dX0_on_155 : decode cX0_on 155 = .ok (.putfield 128, 3) := dk_181 0 128 (dk_at dksX0_on_6 14 rfl rfl)
theorem dX0_on_158 : decode cX0_on 158 = .ok (.iconst 1, 1) := dk_4 (dk_at dksX0_on_6 17 rfl rfl)
theorem dX0_on_159 : decode cX0_on 159 = .ok (.ireturn, 1) := dk_172 (dk_at dksX0_on_6 18 rfl rfl)
abbrev cX0_thingOn : ByteArray := prog_1_method_63_code
def yX0_thingOn : MethodName := ⟨RX0, "thingOn", "(II)Z"⟩
def dkwX0_thingOn_7 : List UInt8 := [153, 0, 16, 42, 180, 0, 75, 180, 0, 216, 27, 46, 5, 160, 0, 7, 4, 167, 0, 4, 3, 172]
abbrev dktX0_thingOn_7 : List UInt8 := dkwX0_thingOn_7 ++ []
def dkwX0_thingOn_6 : List UInt8 := [163, 0, 7, 4, 167, 0, 4, 3, 62, 29, 153, 0, 32, 42, 180, 0, 75, 180, 0, 227, 27, 51]
abbrev dktX0_thingOn_6 : List UInt8 := dkwX0_thingOn_6 ++ dktX0_thingOn_7
def dkwX0_thingOn_5 : List UInt8 := [163, 0, 30, 42, 28, 6, 96, 182, 1, 57, 16, 99, 163, 0, 18, 42, 28, 7, 96, 182, 1, 57, 4]
abbrev dktX0_thingOn_5 : List UInt8 := dkwX0_thingOn_5 ++ dktX0_thingOn_6
def dkwX0_thingOn_4 : List UInt8 := [163, 0, 54, 42, 28, 4, 96, 182, 1, 57, 16, 99, 163, 0, 42, 42, 28, 5, 96, 182, 1, 57, 16, 99]
abbrev dktX0_thingOn_4 : List UInt8 := dkwX0_thingOn_4 ++ dktX0_thingOn_5
def dkwX0_thingOn_3 : List UInt8 := [28, 7, 96, 182, 1, 57, 4, 160, 0, 7, 4, 167, 0, 4, 3, 84, 42, 28, 182, 1, 57, 5]
abbrev dktX0_thingOn_3 : List UInt8 := dkwX0_thingOn_3 ++ dktX0_thingOn_4
def dkwX0_thingOn_2 : List UInt8 := [180, 0, 75, 180, 0, 224, 27, 42, 28, 6, 96, 182, 1, 57, 79, 42, 180, 0, 75, 180, 0, 227, 27, 42]
abbrev dktX0_thingOn_2 : List UInt8 := dkwX0_thingOn_2 ++ dktX0_thingOn_3
def dkwX0_thingOn_1 : List UInt8 := [4, 96, 182, 1, 57, 79, 42, 180, 0, 75, 180, 0, 221, 27, 42, 28, 5, 96, 182, 1, 57, 79, 42]
abbrev dktX0_thingOn_1 : List UInt8 := dkwX0_thingOn_1 ++ dktX0_thingOn_2
def dkwX0_thingOn_0 : List UInt8 := [42, 180, 0, 75, 180, 0, 216, 27, 42, 28, 182, 1, 57, 79, 42, 180, 0, 75, 180, 0, 218, 27, 42, 28]
abbrev dktX0_thingOn_0 : List UInt8 := dkwX0_thingOn_0 ++ dktX0_thingOn_1
theorem dksX0_thingOn_0 : cX0_thingOn.data.toList.drop 0 = dktX0_thingOn_0 := by decide +kernel
theorem dksX0_thingOn_1 : cX0_thingOn.data.toList.drop 24 = dktX0_thingOn_1 := dk_seg dksX0_thingOn_0 24 rfl rfl
theorem dksX0_thingOn_2 : cX0_thingOn.data.toList.drop 47 = dktX0_thingOn_2 := dk_seg dksX0_thingOn_1 23 rfl rfl
theorem dksX0_thingOn_3 : cX0_thingOn.data.toList.drop 71 = dktX0_thingOn_3 := dk_seg dksX0_thingOn_2 24 rfl rfl
theorem dksX0_thingOn_4 : cX0_thingOn.data.toList.drop 93 = dktX0_thingOn_4 := dk_seg dksX0_thingOn_3 22 rfl rfl
theorem dksX0_thingOn_5 : cX0_thingOn.data.toList.drop 117 = dktX0_thingOn_5 := dk_seg dksX0_thingOn_4 24 rfl rfl
theorem dksX0_thingOn_6 : cX0_thingOn.data.toList.drop 140 = dktX0_thingOn_6 := dk_seg dksX0_thingOn_5 23 rfl rfl
theorem dksX0_thingOn_7 : cX0_thingOn.data.toList.drop 162 = dktX0_thingOn_7 := dk_seg dksX0_thingOn_6 22 rfl rfl
theorem dX0_thingOn_0 : decode cX0_thingOn 0 = .ok (.aload_n 0, 1) := dk_42 (dk_at dksX0_thingOn_0 0 rfl rfl)
theorem dX0_thingOn_1 : decode cX0_thingOn 1 = .ok (.getfield 75, 3) := dk_180 0 75 (dk_at dksX0_thingOn_0 1 rfl rfl)
theorem dX0_thingOn_4 : decode cX0_thingOn 4 = .ok (.getfield 216, 3) := dk_180 0 216 (dk_at dksX0_thingOn_0 4 rfl rfl)
theorem dX0_thingOn_7 : decode cX0_thingOn 7 = .ok (.iload_n 1, 1) := dk_27 (dk_at dksX0_thingOn_0 7 rfl rfl)
theorem dX0_thingOn_8 : decode cX0_thingOn 8 = .ok (.aload_n 0, 1) := dk_42 (dk_at dksX0_thingOn_0 8 rfl rfl)
theorem dX0_thingOn_9 : decode cX0_thingOn 9 = .ok (.iload_n 2, 1) := dk_28 (dk_at dksX0_thingOn_0 9 rfl rfl)
theorem dX0_thingOn_10 : decode cX0_thingOn 10 = .ok (.invokevirtual 313, 3) := dk_182 1 57 (dk_at dksX0_thingOn_0 10 rfl rfl)
theorem dX0_thingOn_13 : decode cX0_thingOn 13 = .ok (.iastore, 1) := dk_79 (dk_at dksX0_thingOn_0 13 rfl rfl)
theorem dX0_thingOn_14 : decode cX0_thingOn 14 = .ok (.aload_n 0, 1) := dk_42 (dk_at dksX0_thingOn_0 14 rfl rfl)
theorem dX0_thingOn_15 : decode cX0_thingOn 15 = .ok (.getfield 75, 3) := dk_180 0 75 (dk_at dksX0_thingOn_0 15 rfl rfl)
theorem dX0_thingOn_18 : decode cX0_thingOn 18 = .ok (.getfield 218, 3) := dk_180 0 218 (dk_at dksX0_thingOn_0 18 rfl rfl)
theorem dX0_thingOn_21 : decode cX0_thingOn 21 = .ok (.iload_n 1, 1) := dk_27 (dk_at dksX0_thingOn_0 21 rfl rfl)
theorem dX0_thingOn_22 : decode cX0_thingOn 22 = .ok (.aload_n 0, 1) := dk_42 (dk_at dksX0_thingOn_0 22 rfl rfl)
theorem dX0_thingOn_23 : decode cX0_thingOn 23 = .ok (.iload_n 2, 1) := dk_28 (dk_at dksX0_thingOn_0 23 rfl rfl)
theorem dX0_thingOn_24 : decode cX0_thingOn 24 = .ok (.iconst 1, 1) := dk_4 (dk_at dksX0_thingOn_1 0 rfl rfl)
theorem dX0_thingOn_25 : decode cX0_thingOn 25 = .ok (.iadd, 1) := dk_96 (dk_at dksX0_thingOn_1 1 rfl rfl)
theorem dX0_thingOn_26 : decode cX0_thingOn 26 = .ok (.invokevirtual 313, 3) := dk_182 1 57 (dk_at dksX0_thingOn_1 2 rfl rfl)
theorem dX0_thingOn_29 : decode cX0_thingOn 29 = .ok (.iastore, 1) := dk_79 (dk_at dksX0_thingOn_1 5 rfl rfl)
theorem dX0_thingOn_30 : decode cX0_thingOn 30 = .ok (.aload_n 0, 1) := dk_42 (dk_at dksX0_thingOn_1 6 rfl rfl)
theorem dX0_thingOn_31 : decode cX0_thingOn 31 = .ok (.getfield 75, 3) := dk_180 0 75 (dk_at dksX0_thingOn_1 7 rfl rfl)
theorem dX0_thingOn_34 : decode cX0_thingOn 34 = .ok (.getfield 221, 3) := dk_180 0 221 (dk_at dksX0_thingOn_1 10 rfl rfl)
theorem dX0_thingOn_37 : decode cX0_thingOn 37 = .ok (.iload_n 1, 1) := dk_27 (dk_at dksX0_thingOn_1 13 rfl rfl)
theorem dX0_thingOn_38 : decode cX0_thingOn 38 = .ok (.aload_n 0, 1) := dk_42 (dk_at dksX0_thingOn_1 14 rfl rfl)
theorem dX0_thingOn_39 : decode cX0_thingOn 39 = .ok (.iload_n 2, 1) := dk_28 (dk_at dksX0_thingOn_1 15 rfl rfl)
theorem dX0_thingOn_40 : decode cX0_thingOn 40 = .ok (.iconst 2, 1) := dk_5 (dk_at dksX0_thingOn_1 16 rfl rfl)
theorem dX0_thingOn_41 : decode cX0_thingOn 41 = .ok (.iadd, 1) := dk_96 (dk_at dksX0_thingOn_1 17 rfl rfl)
theorem dX0_thingOn_42 : decode cX0_thingOn 42 = .ok (.invokevirtual 313, 3) := dk_182 1 57 (dk_at dksX0_thingOn_1 18 rfl rfl)
theorem dX0_thingOn_45 : decode cX0_thingOn 45 = .ok (.iastore, 1) := dk_79 (dk_at dksX0_thingOn_1 21 rfl rfl)
theorem dX0_thingOn_46 : decode cX0_thingOn 46 = .ok (.aload_n 0, 1) := dk_42 (dk_at dksX0_thingOn_1 22 rfl rfl)
theorem dX0_thingOn_47 : decode cX0_thingOn 47 = .ok (.getfield 75, 3) := dk_180 0 75 (dk_at dksX0_thingOn_2 0 rfl rfl)
theorem dX0_thingOn_50 : decode cX0_thingOn 50 = .ok (.getfield 224, 3) := dk_180 0 224 (dk_at dksX0_thingOn_2 3 rfl rfl)
theorem dX0_thingOn_53 : decode cX0_thingOn 53 = .ok (.iload_n 1, 1) := dk_27 (dk_at dksX0_thingOn_2 6 rfl rfl)
theorem dX0_thingOn_54 : decode cX0_thingOn 54 = .ok (.aload_n 0, 1) := dk_42 (dk_at dksX0_thingOn_2 7 rfl rfl)
theorem dX0_thingOn_55 : decode cX0_thingOn 55 = .ok (.iload_n 2, 1) := dk_28 (dk_at dksX0_thingOn_2 8 rfl rfl)
theorem dX0_thingOn_56 : decode cX0_thingOn 56 = .ok (.iconst 3, 1) := dk_6 (dk_at dksX0_thingOn_2 9 rfl rfl)
theorem dX0_thingOn_57 : decode cX0_thingOn 57 = .ok (.iadd, 1) := dk_96 (dk_at dksX0_thingOn_2 10 rfl rfl)
theorem dX0_thingOn_58 : decode cX0_thingOn 58 = .ok (.invokevirtual 313, 3) := dk_182 1 57 (dk_at dksX0_thingOn_2 11 rfl rfl)
theorem dX0_thingOn_61 : decode cX0_thingOn 61 = .ok (.iastore, 1) := dk_79 (dk_at dksX0_thingOn_2 14 rfl rfl)
theorem dX0_thingOn_62 : decode cX0_thingOn 62 = .ok (.aload_n 0, 1) := dk_42 (dk_at dksX0_thingOn_2 15 rfl rfl)
theorem dX0_thingOn_63 : decode cX0_thingOn 63 = .ok (.getfield 75, 3) := dk_180 0 75 (dk_at dksX0_thingOn_2 16 rfl rfl)
theorem dX0_thingOn_66 : decode cX0_thingOn 66 = .ok (.getfield 227, 3) := dk_180 0 227 (dk_at dksX0_thingOn_2 19 rfl rfl)
theorem dX0_thingOn_69 : decode cX0_thingOn 69 = .ok (.iload_n 1, 1) := dk_27 (dk_at dksX0_thingOn_2 22 rfl rfl)
theorem dX0_thingOn_70 : decode cX0_thingOn 70 = .ok (.aload_n 0, 1) := dk_42 (dk_at dksX0_thingOn_2 23 rfl rfl)
theorem dX0_thingOn_71 : decode cX0_thingOn 71 = .ok (.iload_n 2, 1) := dk_28 (dk_at dksX0_thingOn_3 0 rfl rfl)
theorem dX0_thingOn_72 : decode cX0_thingOn 72 = .ok (.iconst 4, 1) := dk_7 (dk_at dksX0_thingOn_3 1 rfl rfl)
theorem dX0_thingOn_73 : decode cX0_thingOn 73 = .ok (.iadd, 1) := dk_96 (dk_at dksX0_thingOn_3 2 rfl rfl)
theorem dX0_thingOn_74 : decode cX0_thingOn 74 = .ok (.invokevirtual 313, 3) := dk_182 1 57 (dk_at dksX0_thingOn_3 3 rfl rfl)
theorem dX0_thingOn_77 : decode cX0_thingOn 77 = .ok (.iconst 1, 1) := dk_4 (dk_at dksX0_thingOn_3 6 rfl rfl)
theorem dX0_thingOn_78 : decode cX0_thingOn 78 = .ok (.if_icmp .ne 7, 3) := dk_160 0 7 (dk_at dksX0_thingOn_3 7 rfl rfl)
theorem dX0_thingOn_81 : decode cX0_thingOn 81 = .ok (.iconst 1, 1) := dk_4 (dk_at dksX0_thingOn_3 10 rfl rfl)
theorem dX0_thingOn_82 : decode cX0_thingOn 82 = .ok (.goto 4, 3) := dk_167 0 4 (dk_at dksX0_thingOn_3 11 rfl rfl)
theorem dX0_thingOn_85 : decode cX0_thingOn 85 = .ok (.iconst 0, 1) := dk_3 (dk_at dksX0_thingOn_3 14 rfl rfl)
theorem dX0_thingOn_86 : decode cX0_thingOn 86 = .ok (.bastore, 1) := dk_84 (dk_at dksX0_thingOn_3 15 rfl rfl)
theorem dX0_thingOn_87 : decode cX0_thingOn 87 = .ok (.aload_n 0, 1) := dk_42 (dk_at dksX0_thingOn_3 16 rfl rfl)
theorem dX0_thingOn_88 : decode cX0_thingOn 88 = .ok (.iload_n 2, 1) := dk_28 (dk_at dksX0_thingOn_3 17 rfl rfl)
theorem dX0_thingOn_89 : decode cX0_thingOn 89 = .ok (.invokevirtual 313, 3) := dk_182 1 57 (dk_at dksX0_thingOn_3 18 rfl rfl)
theorem dX0_thingOn_92 : decode cX0_thingOn 92 = .ok (.iconst 2, 1) := dk_5 (dk_at dksX0_thingOn_3 21 rfl rfl)
theorem dX0_thingOn_93 : decode cX0_thingOn 93 = .ok (.if_icmp .gt 54, 3) := dk_163 0 54 (dk_at dksX0_thingOn_4 0 rfl rfl)
theorem dX0_thingOn_96 : decode cX0_thingOn 96 = .ok (.aload_n 0, 1) := dk_42 (dk_at dksX0_thingOn_4 3 rfl rfl)
theorem dX0_thingOn_97 : decode cX0_thingOn 97 = .ok (.iload_n 2, 1) := dk_28 (dk_at dksX0_thingOn_4 4 rfl rfl)
theorem dX0_thingOn_98 : decode cX0_thingOn 98 = .ok (.iconst 1, 1) := dk_4 (dk_at dksX0_thingOn_4 5 rfl rfl)
theorem dX0_thingOn_99 : decode cX0_thingOn 99 = .ok (.iadd, 1) := dk_96 (dk_at dksX0_thingOn_4 6 rfl rfl)
theorem dX0_thingOn_100 : decode cX0_thingOn 100 = .ok (.invokevirtual 313, 3) := dk_182 1 57 (dk_at dksX0_thingOn_4 7 rfl rfl)
theorem dX0_thingOn_103 : decode cX0_thingOn 103 = .ok (.bipush 99, 2) := dk_16 99 (dk_at dksX0_thingOn_4 10 rfl rfl)
theorem dX0_thingOn_105 : decode cX0_thingOn 105 = .ok (.if_icmp .gt 42, 3) := dk_163 0 42 (dk_at dksX0_thingOn_4 12 rfl rfl)
theorem dX0_thingOn_108 : decode cX0_thingOn 108 = .ok (.aload_n 0, 1) := dk_42 (dk_at dksX0_thingOn_4 15 rfl rfl)
theorem dX0_thingOn_109 : decode cX0_thingOn 109 = .ok (.iload_n 2, 1) := dk_28 (dk_at dksX0_thingOn_4 16 rfl rfl)
theorem dX0_thingOn_110 : decode cX0_thingOn 110 = .ok (.iconst 2, 1) := dk_5 (dk_at dksX0_thingOn_4 17 rfl rfl)
theorem dX0_thingOn_111 : decode cX0_thingOn 111 = .ok (.iadd, 1) := dk_96 (dk_at dksX0_thingOn_4 18 rfl rfl)
theorem dX0_thingOn_112 : decode cX0_thingOn 112 = .ok (.invokevirtual 313, 3) := dk_182 1 57 (dk_at dksX0_thingOn_4 19 rfl rfl)
theorem dX0_thingOn_115 : decode cX0_thingOn 115 = .ok (.bipush 99, 2) := dk_16 99 (dk_at dksX0_thingOn_4 22 rfl rfl)
theorem dX0_thingOn_117 : decode cX0_thingOn 117 = .ok (.if_icmp .gt 30, 3) := dk_163 0 30 (dk_at dksX0_thingOn_5 0 rfl rfl)
theorem dX0_thingOn_120 : decode cX0_thingOn 120 = .ok (.aload_n 0, 1) := dk_42 (dk_at dksX0_thingOn_5 3 rfl rfl)
theorem dX0_thingOn_121 : decode cX0_thingOn 121 = .ok (.iload_n 2, 1) := dk_28 (dk_at dksX0_thingOn_5 4 rfl rfl)
theorem dX0_thingOn_122 : decode cX0_thingOn 122 = .ok (.iconst 3, 1) := dk_6 (dk_at dksX0_thingOn_5 5 rfl rfl)
theorem dX0_thingOn_123 : decode cX0_thingOn 123 = .ok (.iadd, 1) := dk_96 (dk_at dksX0_thingOn_5 6 rfl rfl)
theorem dX0_thingOn_124 : decode cX0_thingOn 124 = .ok (.invokevirtual 313, 3) := dk_182 1 57 (dk_at dksX0_thingOn_5 7 rfl rfl)
theorem dX0_thingOn_127 : decode cX0_thingOn 127 = .ok (.bipush 99, 2) := dk_16 99 (dk_at dksX0_thingOn_5 10 rfl rfl)
theorem dX0_thingOn_129 : decode cX0_thingOn 129 = .ok (.if_icmp .gt 18, 3) := dk_163 0 18 (dk_at dksX0_thingOn_5 12 rfl rfl)
theorem dX0_thingOn_132 : decode cX0_thingOn 132 = .ok (.aload_n 0, 1) := dk_42 (dk_at dksX0_thingOn_5 15 rfl rfl)
theorem dX0_thingOn_133 : decode cX0_thingOn 133 = .ok (.iload_n 2, 1) := dk_28 (dk_at dksX0_thingOn_5 16 rfl rfl)
theorem dX0_thingOn_134 : decode cX0_thingOn 134 = .ok (.iconst 4, 1) := dk_7 (dk_at dksX0_thingOn_5 17 rfl rfl)
theorem dX0_thingOn_135 : decode cX0_thingOn 135 = .ok (.iadd, 1) := dk_96 (dk_at dksX0_thingOn_5 18 rfl rfl)
theorem dX0_thingOn_136 : decode cX0_thingOn 136 = .ok (.invokevirtual 313, 3) := dk_182 1 57 (dk_at dksX0_thingOn_5 19 rfl rfl)
theorem dX0_thingOn_139 : decode cX0_thingOn 139 = .ok (.iconst 1, 1) := dk_4 (dk_at dksX0_thingOn_5 22 rfl rfl)
theorem dX0_thingOn_140 : decode cX0_thingOn 140 = .ok (.if_icmp .gt 7, 3) := dk_163 0 7 (dk_at dksX0_thingOn_6 0 rfl rfl)
theorem dX0_thingOn_143 : decode cX0_thingOn 143 = .ok (.iconst 1, 1) := dk_4 (dk_at dksX0_thingOn_6 3 rfl rfl)
theorem dX0_thingOn_144 : decode cX0_thingOn 144 = .ok (.goto 4, 3) := dk_167 0 4 (dk_at dksX0_thingOn_6 4 rfl rfl)
theorem dX0_thingOn_147 : decode cX0_thingOn 147 = .ok (.iconst 0, 1) := dk_3 (dk_at dksX0_thingOn_6 7 rfl rfl)
theorem dX0_thingOn_148 : decode cX0_thingOn 148 = .ok (.istore_n 3, 1) := dk_62 (dk_at dksX0_thingOn_6 8 rfl rfl)
theorem dX0_thingOn_149 : decode cX0_thingOn 149 = .ok (.iload_n 3, 1) := dk_29 (dk_at dksX0_thingOn_6 9 rfl rfl)
theorem dX0_thingOn_150 : decode cX0_thingOn 150 = .ok (.ifCond .eq 32, 3) := dk_153 0 32 (dk_at dksX0_thingOn_6 10 rfl rfl)
theorem dX0_thingOn_153 : decode cX0_thingOn 153 = .ok (.aload_n 0, 1) := dk_42 (dk_at dksX0_thingOn_6 13 rfl rfl)
theorem dX0_thingOn_154 : decode cX0_thingOn 154 = .ok (.getfield 75, 3) := dk_180 0 75 (dk_at dksX0_thingOn_6 14 rfl rfl)
theorem dX0_thingOn_157 : decode cX0_thingOn 157 = .ok (.getfield 227, 3) := dk_180 0 227 (dk_at dksX0_thingOn_6 17 rfl rfl)
theorem dX0_thingOn_160 : decode cX0_thingOn 160 = .ok (.iload_n 1, 1) := dk_27 (dk_at dksX0_thingOn_6 20 rfl rfl)
theorem dX0_thingOn_161 : decode cX0_thingOn 161 = .ok (.baload, 1) := dk_51 (dk_at dksX0_thingOn_6 21 rfl rfl)
theorem dX0_thingOn_162 : decode cX0_thingOn 162 = .ok (.ifCond .eq 16, 3) := dk_153 0 16 (dk_at dksX0_thingOn_7 0 rfl rfl)
theorem dX0_thingOn_165 : decode cX0_thingOn 165 = .ok (.aload_n 0, 1) := dk_42 (dk_at dksX0_thingOn_7 3 rfl rfl)
theorem dX0_thingOn_166 : decode cX0_thingOn 166 = .ok (.getfield 75, 3) := dk_180 0 75 (dk_at dksX0_thingOn_7 4 rfl rfl)
theorem dX0_thingOn_169 : decode cX0_thingOn 169 = .ok (.getfield 216, 3) := dk_180 0 216 (dk_at dksX0_thingOn_7 7 rfl rfl)
theorem dX0_thingOn_172 : decode cX0_thingOn 172 = .ok (.iload_n 1, 1) := dk_27 (dk_at dksX0_thingOn_7 10 rfl rfl)
theorem dX0_thingOn_173 : decode cX0_thingOn 173 = .ok (.iaload, 1) := dk_46 (dk_at dksX0_thingOn_7 11 rfl rfl)
theorem dX0_thingOn_174 : decode cX0_thingOn 174 = .ok (.iconst 2, 1) := dk_5 (dk_at dksX0_thingOn_7 12 rfl rfl)
theorem dX0_thingOn_175 : decode cX0_thingOn 175 = .ok (.if_icmp .ne 7, 3) := dk_160 0 7 (dk_at dksX0_thingOn_7 13 rfl rfl)
theorem dX0_thingOn_178 : decode cX0_thingOn 178 = .ok (.iconst 1, 1) := dk_4 (dk_at dksX0_thingOn_7 16 rfl rfl)
theorem dX0_thingOn_179 : decode cX0_thingOn 179 = .ok (.goto 4, 3) := dk_167 0 4 (dk_at dksX0_thingOn_7 17 rfl rfl)
theorem dX0_thingOn_182 : decode cX0_thingOn 182 = .ok (.iconst 0, 1) := dk_3 (dk_at dksX0_thingOn_7 20 rfl rfl)
theorem dX0_thingOn_183 : decode cX0_thingOn 183 = .ok (.ireturn, 1) := dk_172 (dk_at dksX0_thingOn_7 21 rfl rfl)
abbrev cX0_status : ByteArray := prog_1_method_65_code
def yX0_status : MethodName := ⟨RX0, "status", "(I)I"⟩
def dkwX0_status_0 : List UInt8 := [27, 3, 8, 184, 0, 200, 153, 0, 12, 42, 180, 0, 64, 27, 46, 167, 0, 4, 2, 172]
abbrev dktX0_status_0 : List UInt8 := dkwX0_status_0 ++ []
theorem dksX0_status_0 : cX0_status.data.toList.drop 0 = dktX0_status_0 := by decide +kernel
theorem dX0_status_0 : decode cX0_status 0 = .ok (.iload_n 1, 1) := dk_27 (dk_at dksX0_status_0 0 rfl rfl)
theorem dX0_status_1 : decode cX0_status 1 = .ok (.iconst 0, 1) := dk_3 (dk_at dksX0_status_0 1 rfl rfl)
theorem dX0_status_2 : decode cX0_status 2 = .ok (.iconst 5, 1) := dk_8 (dk_at dksX0_status_0 2 rfl rfl)
theorem dX0_status_3 : decode cX0_status 3 = .ok (.invokestatic 200, 3) := dk_184 0 200 (dk_at dksX0_status_0 3 rfl rfl)
theorem dX0_status_6 : decode cX0_status 6 = .ok (.ifCond .eq 12, 3) := dk_153 0 12 (dk_at dksX0_status_0 6 rfl rfl)
theorem dX0_status_9 : decode cX0_status 9 = .ok (.aload_n 0, 1) := dk_42 (dk_at dksX0_status_0 9 rfl rfl)
theorem dX0_status_10 : decode cX0_status 10 = .ok (.getfield 64, 3) := dk_180 0 64 (dk_at dksX0_status_0 10 rfl rfl)
theorem dX0_status_13 : decode cX0_status 13 = .ok (.iload_n 1, 1) := dk_27 (dk_at dksX0_status_0 13 rfl rfl)
theorem dX0_status_14 : decode cX0_status 14 = .ok (.iaload, 1) := dk_46 (dk_at dksX0_status_0 14 rfl rfl)
theorem dX0_status_15 : decode cX0_status 15 = .ok (.goto 4, 3) := dk_167 0 4 (dk_at dksX0_status_0 15 rfl rfl)
theorem dX0_status_18 : decode cX0_status 18 = .ok (.iconst (-1), 1) := dk_2 (dk_at dksX0_status_0 18 rfl rfl)
theorem dX0_status_19 : decode cX0_status 19 = .ok (.ireturn, 1) := dk_172 (dk_at dksX0_status_0 19 rfl rfl)
theorem q158 : (Jvm.Cond.initialized "MendedThings") ∈ lw_all := lw_g (lw_at lw_m1 1 rfl) rfl
theorem q200 : (Jvm.Cond.instantiable "MendedThings" (20 : Nat)) ∈ lw_all := lw_g (lw_at lw_m1 43 rfl) rfl
theorem q202 : (Jvm.Cond.instanceMethod ({ cls := "MendedThings", name := "<init>", desc := "()V" } : Jvm.MethodName)) ∈ lw_all := lw_g (lw_at lw_m1 45 rfl) rfl
theorem q203 : (Jvm.Cond.code ({ cls := "MendedThings", name := "<init>", desc := "()V" } : Jvm.MethodName) prog_1_method_7_code (2 : Nat) (Option.none : Option Jvm.ClassFile.FieldType)) ∈ lw_all := lw_g (lw_at lw_m1 46 rfl) rfl
theorem q204 : (Jvm.Cond.methodLink "MendedThings" (24 : Nat) ({ cls := "java/lang/Object", name := "<init>", desc := "()V" } : Jvm.MethodName)) ∈ lw_all := lw_g (lw_at lw_m1 47 rfl) rfl
theorem q207 : (Jvm.Cond.classLink "MendedThings" (30 : Nat) "MendedThings$Island") ∈ lw_all := lw_g (lw_at lw_m1 50 rfl) rfl
theorem q209 : (Jvm.Cond.methodLinkNest "MendedThings" (32 : Nat) ({ cls := "MendedThings$Island", name := "<init>", desc := "()V" } : Jvm.MethodName) "MendedThings") ∈ lw_tbl := lw_at lw_m1 52 rfl
theorem q241 : (Jvm.Cond.fieldLinkNest "MendedThings" (131 : Nat) "MendedThings$Island" "statements" "I" "MendedThings") ∈ lw_tbl := lw_at lw_m1 84 rfl
theorem q244 : (Jvm.Cond.fieldLinkNest "MendedThings" (335 : Nat) "MendedThings$Island" "cat" "I" "MendedThings") ∈ lw_tbl := lw_at lw_m1 87 rfl
theorem q246 : (Jvm.Cond.fieldLinkNest "MendedThings" (134 : Nat) "MendedThings$Island" "things" "Ljava/util/List;" "MendedThings") ∈ lw_tbl := lw_at lw_m1 89 rfl
theorem q249 : (Jvm.Cond.fieldLinkNest "MendedThings" (143 : Nat) "MendedThings$Island" "menders" "Ljava/util/List;" "MendedThings") ∈ lw_tbl := lw_at lw_m1 92 rfl
theorem q253 : (Jvm.Cond.fieldLinkNest "MendedThings" (146 : Nat) "MendedThings$Island" "trials" "Ljava/util/List;" "MendedThings") ∈ lw_tbl := lw_at lw_m1 96 rfl
theorem q285 : (Jvm.Cond.classLink "MendedThings" (45 : Nat) "MendedThings$Reader") ∈ lw_all := lw_g (lw_at lw_m1 128 rfl) rfl
theorem q287 : (Jvm.Cond.methodLinkNest "MendedThings" (47 : Nat) ({ cls := "MendedThings$Reader", name := "<init>", desc := "(LMendedThings;)V" } : Jvm.MethodName) "MendedThings") ∈ lw_tbl := lw_at lw_m1 130 rfl
theorem q343 : (Jvm.Cond.fieldLinkNest "MendedThings" (122 : Nat) "MendedThings$Fault" "kind" "I" "MendedThings") ∈ lw_tbl := lw_at lw_m1 186 rfl
theorem q345 : (Jvm.Cond.fieldLinkNest "MendedThings" (125 : Nat) "MendedThings$Fault" "place" "I" "MendedThings") ∈ lw_tbl := lw_at lw_m1 188 rfl
theorem q389 : (Jvm.Cond.classLink "MendedThings" (54 : Nat) "MendedThings$Moment") ∈ lw_all := lw_g (lw_at lw_m1 232 rfl) rfl
theorem q391 : (Jvm.Cond.methodLinkNest "MendedThings" (56 : Nat) ({ cls := "MendedThings$Moment", name := "<init>", desc := "()V" } : Jvm.MethodName) "MendedThings") ∈ lw_tbl := lw_at lw_m1 234 rfl
theorem q398 : (Jvm.Cond.fieldLinkNest "MendedThings" (345 : Nat) "MendedThings$Moment" "of" "[J" "MendedThings") ∈ lw_tbl := lw_at lw_m2 1 rfl
theorem q403 : (Jvm.Cond.classLink "MendedThings" (68 : Nat) "MendedThings$State") ∈ lw_all := lw_g (lw_at lw_m2 6 rfl) rfl
theorem q405 : (Jvm.Cond.methodLinkNest "MendedThings" (70 : Nat) ({ cls := "MendedThings$State", name := "<init>", desc := "(LMendedThings;)V" } : Jvm.MethodName) "MendedThings") ∈ lw_tbl := lw_at lw_m2 8 rfl
theorem q412 : (Jvm.Cond.fieldLinkNest "MendedThings" (177 : Nat) "MendedThings$State" "day" "I" "MendedThings") ∈ lw_tbl := lw_at lw_m2 15 rfl
theorem q414 : (Jvm.Cond.fieldLinkNest "MendedThings" (197 : Nat) "MendedThings$State" "keeps" "I" "MendedThings") ∈ lw_tbl := lw_at lw_m2 17 rfl
theorem q416 : (Jvm.Cond.fieldLinkNest "MendedThings" (216 : Nat) "MendedThings$State" "is" "[I" "MendedThings") ∈ lw_tbl := lw_at lw_m2 19 rfl
theorem q418 : (Jvm.Cond.fieldLinkNest "MendedThings" (218 : Nat) "MendedThings$State" "breaks" "[I" "MendedThings") ∈ lw_tbl := lw_at lw_m2 21 rfl
theorem q420 : (Jvm.Cond.fieldLinkNest "MendedThings" (221 : Nat) "MendedThings$State" "mends" "[I" "MendedThings") ∈ lw_tbl := lw_at lw_m2 23 rfl
theorem q422 : (Jvm.Cond.fieldLinkNest "MendedThings" (224 : Nat) "MendedThings$State" "glue" "[I" "MendedThings") ∈ lw_tbl := lw_at lw_m2 25 rfl
theorem q424 : (Jvm.Cond.fieldLinkNest "MendedThings" (227 : Nat) "MendedThings$State" "isForged" "[Z" "MendedThings") ∈ lw_tbl := lw_at lw_m2 27 rfl
theorem q426 : (Jvm.Cond.fieldLinkNest "MendedThings" (270 : Nat) "MendedThings$State" "rows" "[[I" "MendedThings") ∈ lw_tbl := lw_at lw_m2 29 rfl
theorem q428 : (Jvm.Cond.fieldLinkNest "MendedThings" (284 : Nat) "MendedThings$State" "broke" "I" "MendedThings") ∈ lw_tbl := lw_at lw_m2 31 rfl
theorem q430 : (Jvm.Cond.fieldLinkNest "MendedThings" (309 : Nat) "MendedThings$State" "other" "I" "MendedThings") ∈ lw_tbl := lw_at lw_m2 33 rfl
theorem q432 : (Jvm.Cond.fieldLinkNest "MendedThings" (312 : Nat) "MendedThings$State" "frail" "I" "MendedThings") ∈ lw_tbl := lw_at lw_m2 35 rfl
theorem q465 : (Jvm.Cond.methodLink "MendedThings" (88 : Nat) ({ cls := "MendedThings$State", name := "begins", desc := "()V" } : Jvm.MethodName)) ∈ lw_all := lw_g (lw_at lw_m2 68 rfl) rfl
theorem q469 : (Jvm.Cond.fieldLink "MendedThings" (33 : Nat) "MendedThings" "island" "LMendedThings$Island;") ∈ lw_all := lw_g (lw_at lw_m2 72 rfl) rfl
theorem q472 : (Jvm.Cond.fieldLink "MendedThings" (37 : Nat) "MendedThings" "tape" "[B") ∈ lw_all := lw_g (lw_at lw_m2 75 rfl) rfl
theorem q473 : (Jvm.Cond.fieldLink "MendedThings" (98 : Nat) "MendedThings" "taped" "I") ∈ lw_all := lw_g (lw_at lw_m2 76 rfl) rfl
theorem q474 : (Jvm.Cond.fieldLink "MendedThings" (109 : Nat) "MendedThings" "faultKind" "I") ∈ lw_all := lw_g (lw_at lw_m2 77 rfl) rfl
theorem q475 : (Jvm.Cond.fieldLink "MendedThings" (41 : Nat) "MendedThings" "faultPlace" "I") ∈ lw_all := lw_g (lw_at lw_m2 78 rfl) rfl
theorem q476 : (Jvm.Cond.fieldLink "MendedThings" (50 : Nat) "MendedThings" "reader" "LMendedThings$Reader;") ∈ lw_all := lw_g (lw_at lw_m2 79 rfl) rfl
theorem q478 : (Jvm.Cond.fieldLink "MendedThings" (57 : Nat) "MendedThings" "moment" "LMendedThings$Moment;") ∈ lw_all := lw_g (lw_at lw_m2 81 rfl) rfl
theorem q479 : (Jvm.Cond.fieldLink "MendedThings" (61 : Nat) "MendedThings" "asked" "LMendedThings$Moment;") ∈ lw_all := lw_g (lw_at lw_m2 82 rfl) rfl
theorem q480 : (Jvm.Cond.fieldLink "MendedThings" (64 : Nat) "MendedThings" "refused" "[I") ∈ lw_all := lw_g (lw_at lw_m2 83 rfl) rfl
theorem q481 : (Jvm.Cond.fieldLink "MendedThings" (71 : Nat) "MendedThings" "now" "LMendedThings$State;") ∈ lw_all := lw_g (lw_at lw_m2 84 rfl) rfl
theorem q482 : (Jvm.Cond.fieldLink "MendedThings" (75 : Nat) "MendedThings" "tried" "LMendedThings$State;") ∈ lw_all := lw_g (lw_at lw_m2 85 rfl) rfl
theorem q483 : (Jvm.Cond.fieldLink "MendedThings" (78 : Nat) "MendedThings" "placed" "[I") ∈ lw_all := lw_g (lw_at lw_m2 86 rfl) rfl
theorem q484 : (Jvm.Cond.fieldLink "MendedThings" (81 : Nat) "MendedThings" "bestPlaced" "[I") ∈ lw_all := lw_g (lw_at lw_m2 87 rfl) rfl
theorem q485 : (Jvm.Cond.fieldLink "MendedThings" (298 : Nat) "MendedThings" "leastCost" "I") ∈ lw_all := lw_g (lw_at lw_m2 88 rfl) rfl
theorem q486 : (Jvm.Cond.fieldLink "MendedThings" (84 : Nat) "MendedThings" "kept" "[LMendedThings$State;") ∈ lw_all := lw_g (lw_at lw_m2 89 rfl) rfl
theorem q487 : (Jvm.Cond.fieldLink "MendedThings" (128 : Nat) "MendedThings" "undos" "I") ∈ lw_all := lw_g (lw_at lw_m2 90 rfl) rfl
theorem q488 : (Jvm.Cond.fieldLink "MendedThings" (91 : Nat) "MendedThings" "seeds" "J") ∈ lw_all := lw_g (lw_at lw_m2 91 rfl) rfl
theorem q489 : (Jvm.Cond.fieldLink "MendedThings" (338 : Nat) "MendedThings" "askedThing" "I") ∈ lw_all := lw_g (lw_at lw_m2 92 rfl) rfl
theorem q490 : (Jvm.Cond.fieldLink "MendedThings" (95 : Nat) "MendedThings" "out" "[B") ∈ lw_all := lw_g (lw_at lw_m2 93 rfl) rfl
theorem q491 : (Jvm.Cond.fieldLink "MendedThings" (359 : Nat) "MendedThings" "outs" "I") ∈ lw_all := lw_g (lw_at lw_m2 94 rfl) rfl
theorem q492 : (Jvm.Cond.lays "MendedThings" "MendedThings" "island" "LMendedThings$Island;") ∈ lw_all := lw_g (lw_at lw_m2 95 rfl) rfl
theorem q493 : (Jvm.Cond.soleField "MendedThings" "island") ∈ lw_all := lw_g (lw_at lw_m2 96 rfl) rfl
theorem q494 : (Jvm.Cond.laysFinal "MendedThings" "MendedThings" "tape" "[B") ∈ lw_all := lw_g (lw_at lw_m2 97 rfl) rfl
theorem q495 : (Jvm.Cond.soleField "MendedThings" "tape") ∈ lw_all := lw_g (lw_at lw_m2 98 rfl) rfl
theorem q496 : (Jvm.Cond.lays "MendedThings" "MendedThings" "taped" "I") ∈ lw_all := lw_g (lw_at lw_m2 99 rfl) rfl
theorem q497 : (Jvm.Cond.soleField "MendedThings" "taped") ∈ lw_all := lw_g (lw_at lw_m2 100 rfl) rfl
theorem q498 : (Jvm.Cond.lays "MendedThings" "MendedThings" "faultKind" "I") ∈ lw_all := lw_g (lw_at lw_m2 101 rfl) rfl
theorem q499 : (Jvm.Cond.soleField "MendedThings" "faultKind") ∈ lw_all := lw_g (lw_at lw_m2 102 rfl) rfl
theorem q500 : (Jvm.Cond.lays "MendedThings" "MendedThings" "faultPlace" "I") ∈ lw_all := lw_g (lw_at lw_m2 103 rfl) rfl
theorem q501 : (Jvm.Cond.soleField "MendedThings" "faultPlace") ∈ lw_all := lw_g (lw_at lw_m2 104 rfl) rfl
theorem q502 : (Jvm.Cond.laysFinal "MendedThings" "MendedThings" "reader" "LMendedThings$Reader;") ∈ lw_all := lw_g (lw_at lw_m2 105 rfl) rfl
theorem q503 : (Jvm.Cond.soleField "MendedThings" "reader") ∈ lw_all := lw_g (lw_at lw_m2 106 rfl) rfl
theorem q504 : (Jvm.Cond.laysFinal "MendedThings" "MendedThings" "moment" "LMendedThings$Moment;") ∈ lw_all := lw_g (lw_at lw_m2 107 rfl) rfl
theorem q505 : (Jvm.Cond.soleField "MendedThings" "moment") ∈ lw_all := lw_g (lw_at lw_m2 108 rfl) rfl
theorem q506 : (Jvm.Cond.laysFinal "MendedThings" "MendedThings" "asked" "LMendedThings$Moment;") ∈ lw_all := lw_g (lw_at lw_m2 109 rfl) rfl
theorem q507 : (Jvm.Cond.soleField "MendedThings" "asked") ∈ lw_all := lw_g (lw_at lw_m2 110 rfl) rfl
theorem q508 : (Jvm.Cond.laysFinal "MendedThings" "MendedThings" "refused" "[I") ∈ lw_all := lw_g (lw_at lw_m2 111 rfl) rfl
theorem q509 : (Jvm.Cond.soleField "MendedThings" "refused") ∈ lw_all := lw_g (lw_at lw_m2 112 rfl) rfl
theorem q510 : (Jvm.Cond.laysFinal "MendedThings" "MendedThings" "now" "LMendedThings$State;") ∈ lw_all := lw_g (lw_at lw_m2 113 rfl) rfl
theorem q511 : (Jvm.Cond.soleField "MendedThings" "now") ∈ lw_all := lw_g (lw_at lw_m2 114 rfl) rfl
theorem q512 : (Jvm.Cond.laysFinal "MendedThings" "MendedThings" "tried" "LMendedThings$State;") ∈ lw_all := lw_g (lw_at lw_m2 115 rfl) rfl
theorem q513 : (Jvm.Cond.soleField "MendedThings" "tried") ∈ lw_all := lw_g (lw_at lw_m2 116 rfl) rfl
theorem q514 : (Jvm.Cond.laysFinal "MendedThings" "MendedThings" "placed" "[I") ∈ lw_all := lw_g (lw_at lw_m2 117 rfl) rfl
theorem q515 : (Jvm.Cond.soleField "MendedThings" "placed") ∈ lw_all := lw_g (lw_at lw_m2 118 rfl) rfl
theorem q516 : (Jvm.Cond.laysFinal "MendedThings" "MendedThings" "bestPlaced" "[I") ∈ lw_all := lw_g (lw_at lw_m2 119 rfl) rfl
theorem q517 : (Jvm.Cond.soleField "MendedThings" "bestPlaced") ∈ lw_all := lw_g (lw_at lw_m2 120 rfl) rfl
theorem q518 : (Jvm.Cond.lays "MendedThings" "MendedThings" "leastCost" "I") ∈ lw_all := lw_g (lw_at lw_m2 121 rfl) rfl
theorem q519 : (Jvm.Cond.soleField "MendedThings" "leastCost") ∈ lw_all := lw_g (lw_at lw_m2 122 rfl) rfl
theorem q520 : (Jvm.Cond.laysFinal "MendedThings" "MendedThings" "kept" "[LMendedThings$State;") ∈ lw_all := lw_g (lw_at lw_m2 123 rfl) rfl
theorem q521 : (Jvm.Cond.soleField "MendedThings" "kept") ∈ lw_all := lw_g (lw_at lw_m2 124 rfl) rfl
theorem q522 : (Jvm.Cond.lays "MendedThings" "MendedThings" "undos" "I") ∈ lw_all := lw_g (lw_at lw_m2 125 rfl) rfl
theorem q523 : (Jvm.Cond.soleField "MendedThings" "undos") ∈ lw_all := lw_g (lw_at lw_m2 126 rfl) rfl
theorem q524 : (Jvm.Cond.lays "MendedThings" "MendedThings" "seeds" "J") ∈ lw_all := lw_g (lw_at lw_m2 127 rfl) rfl
theorem q525 : (Jvm.Cond.soleField "MendedThings" "seeds") ∈ lw_all := lw_g (lw_at lw_m2 128 rfl) rfl
theorem q526 : (Jvm.Cond.lays "MendedThings" "MendedThings" "askedThing" "I") ∈ lw_all := lw_g (lw_at lw_m2 129 rfl) rfl
theorem q527 : (Jvm.Cond.soleField "MendedThings" "askedThing") ∈ lw_all := lw_g (lw_at lw_m2 130 rfl) rfl
theorem q528 : (Jvm.Cond.laysFinal "MendedThings" "MendedThings" "out" "[B") ∈ lw_all := lw_g (lw_at lw_m2 131 rfl) rfl
theorem q529 : (Jvm.Cond.soleField "MendedThings" "out") ∈ lw_all := lw_g (lw_at lw_m2 132 rfl) rfl
theorem q530 : (Jvm.Cond.lays "MendedThings" "MendedThings" "outs" "I") ∈ lw_all := lw_g (lw_at lw_m2 133 rfl) rfl
theorem q531 : (Jvm.Cond.soleField "MendedThings" "outs") ∈ lw_all := lw_g (lw_at lw_m2 134 rfl) rfl
theorem q532 : (Jvm.Cond.superclass "MendedThings" "java/lang/Object") ∈ lw_all := lw_g (lw_at lw_m2 135 rfl) rfl
theorem q534 : (Jvm.Cond.instanceMethod ({ cls := "MendedThings", name := "feed", desc := "(IIIII)I" } : Jvm.MethodName)) ∈ lw_all := lw_g (lw_at lw_m2 137 rfl) rfl
theorem q535 : (Jvm.Cond.selects "MendedThings" ({ cls := "MendedThings", name := "feed", desc := "(IIIII)I" } : Jvm.MethodName) ({ cls := "MendedThings", name := "feed", desc := "(IIIII)I" } : Jvm.MethodName)) ∈ lw_all := lw_g (lw_at lw_m2 138 rfl) rfl
theorem q536 : (Jvm.Cond.code ({ cls := "MendedThings", name := "feed", desc := "(IIIII)I" } : Jvm.MethodName) prog_1_method_10_code (6 : Nat) (Option.some Jvm.ClassFile.FieldType.int)) ∈ lw_all := lw_g (lw_at lw_m2 139 rfl) rfl
theorem q537 : (Jvm.Cond.methodLink "MendedThings" (101 : Nat) ({ cls := "MendedThings", name := "refuses", desc := "(I)I" } : Jvm.MethodName)) ∈ lw_all := lw_g (lw_at lw_m2 140 rfl) rfl
theorem q538 : (Jvm.Cond.privateMethod ({ cls := "MendedThings", name := "refuses", desc := "(I)I" } : Jvm.MethodName)) ∈ lw_tbl := lw_at lw_m2 141 rfl
theorem q539 : (Jvm.Cond.instanceMethod ({ cls := "MendedThings", name := "refuses", desc := "(I)I" } : Jvm.MethodName)) ∈ lw_all := lw_g (lw_at lw_m2 142 rfl) rfl
theorem q540 : (Jvm.Cond.code ({ cls := "MendedThings", name := "refuses", desc := "(I)I" } : Jvm.MethodName) prog_1_method_8_code (2 : Nat) (Option.some Jvm.ClassFile.FieldType.int)) ∈ lw_all := lw_g (lw_at lw_m2 143 rfl) rfl
theorem q541 : (Jvm.Cond.methodLink "MendedThings" (105 : Nat) ({ cls := "MendedThings", name := "put", desc := "(I)V" } : Jvm.MethodName)) ∈ lw_all := lw_g (lw_at lw_m2 144 rfl) rfl
theorem q542 : (Jvm.Cond.privateMethod ({ cls := "MendedThings", name := "put", desc := "(I)V" } : Jvm.MethodName)) ∈ lw_tbl := lw_at lw_m2 145 rfl
theorem q543 : (Jvm.Cond.instanceMethod ({ cls := "MendedThings", name := "put", desc := "(I)V" } : Jvm.MethodName)) ∈ lw_all := lw_g (lw_at lw_m2 146 rfl) rfl
theorem q544 : (Jvm.Cond.code ({ cls := "MendedThings", name := "put", desc := "(I)V" } : Jvm.MethodName) prog_1_method_9_code (3 : Nat) (Option.none : Option Jvm.ClassFile.FieldType)) ∈ lw_all := lw_g (lw_at lw_m2 147 rfl) rfl
theorem q546 : (Jvm.Cond.instanceMethod ({ cls := "MendedThings", name := "end", desc := "(I)Z" } : Jvm.MethodName)) ∈ lw_all := lw_g (lw_at lw_m2 149 rfl) rfl
theorem q547 : (Jvm.Cond.selects "MendedThings" ({ cls := "MendedThings", name := "end", desc := "(I)Z" } : Jvm.MethodName) ({ cls := "MendedThings", name := "end", desc := "(I)Z" } : Jvm.MethodName)) ∈ lw_all := lw_g (lw_at lw_m2 150 rfl) rfl
theorem q548 : (Jvm.Cond.code ({ cls := "MendedThings", name := "end", desc := "(I)Z" } : Jvm.MethodName) prog_1_method_11_code (2 : Nat) (Option.some Jvm.ClassFile.FieldType.boolean)) ∈ lw_all := lw_g (lw_at lw_m2 151 rfl) rfl
theorem q550 : (Jvm.Cond.instanceMethod ({ cls := "MendedThings", name := "island", desc := "()I" } : Jvm.MethodName)) ∈ lw_all := lw_g (lw_at lw_m2 153 rfl) rfl
theorem q551 : (Jvm.Cond.selects "MendedThings" ({ cls := "MendedThings", name := "island", desc := "()I" } : Jvm.MethodName) ({ cls := "MendedThings", name := "island", desc := "()I" } : Jvm.MethodName)) ∈ lw_all := lw_g (lw_at lw_m2 154 rfl) rfl
theorem q552 : (Jvm.Cond.codeWith ({ cls := "MendedThings", name := "island", desc := "()I" } : Jvm.MethodName) prog_1_method_13_code (2 : Nat) (Option.some Jvm.ClassFile.FieldType.int) [((10 : Nat), (25 : Nat), (28 : Nat), (120 : Nat))]) ∈ lw_all := lw_g (lw_at lw_m2 155 rfl) rfl
theorem q553 : (Jvm.Cond.classLink "MendedThings" (120 : Nat) "MendedThings$Fault") ∈ lw_all := lw_g (lw_at lw_m2 156 rfl) rfl
theorem q554 : (Jvm.Cond.methodLink "MendedThings" (112 : Nat) ({ cls := "MendedThings", name := "taken", desc := "()I" } : Jvm.MethodName)) ∈ lw_all := lw_g (lw_at lw_m2 157 rfl) rfl
theorem q555 : (Jvm.Cond.privateMethod ({ cls := "MendedThings", name := "taken", desc := "()I" } : Jvm.MethodName)) ∈ lw_tbl := lw_at lw_m2 158 rfl
theorem q556 : (Jvm.Cond.instanceMethod ({ cls := "MendedThings", name := "taken", desc := "()I" } : Jvm.MethodName)) ∈ lw_all := lw_g (lw_at lw_m2 159 rfl) rfl
theorem q557 : (Jvm.Cond.code ({ cls := "MendedThings", name := "taken", desc := "()I" } : Jvm.MethodName) prog_1_method_12_code (2 : Nat) (Option.some Jvm.ClassFile.FieldType.int)) ∈ lw_all := lw_g (lw_at lw_m2 160 rfl) rfl
theorem q558 : (Jvm.Cond.methodLink "MendedThings" (116 : Nat) ({ cls := "MendedThings$Reader", name := "all", desc := "(I)LMendedThings$Island;" } : Jvm.MethodName)) ∈ lw_all := lw_g (lw_at lw_m2 161 rfl) rfl
theorem q585 : (Jvm.Cond.static ({ cls := "MendedThings", name := "isLetter", desc := "(I)Z" } : Jvm.MethodName)) ∈ lw_all := lw_g (lw_at lw_m2 188 rfl) rfl
theorem q586 : (Jvm.Cond.code ({ cls := "MendedThings", name := "isLetter", desc := "(I)Z" } : Jvm.MethodName) prog_1_method_4_code (1 : Nat) (Option.some Jvm.ClassFile.FieldType.boolean)) ∈ lw_all := lw_g (lw_at lw_m2 189 rfl) rfl
theorem q592 : (Jvm.Cond.static ({ cls := "MendedThings", name := "isDigit", desc := "(I)Z" } : Jvm.MethodName)) ∈ lw_all := lw_g (lw_at lw_m2 195 rfl) rfl
theorem q593 : (Jvm.Cond.code ({ cls := "MendedThings", name := "isDigit", desc := "(I)Z" } : Jvm.MethodName) prog_1_method_5_code (1 : Nat) (Option.some Jvm.ClassFile.FieldType.boolean)) ∈ lw_all := lw_g (lw_at lw_m2 196 rfl) rfl
theorem q758 : (Jvm.Cond.laysStatic "MendedThings" "OWN" "[Ljava/lang/String;") ∈ lw_tbl := lw_at lw_m3 121 rfl
theorem q760 : (Jvm.Cond.static ({ cls := "MendedThings", name := "find", desc := "(Ljava/lang/String;[Ljava/lang/String;)I" } : Jvm.MethodName)) ∈ lw_all := lw_g (lw_at lw_m3 123 rfl) rfl
theorem q761 : (Jvm.Cond.code ({ cls := "MendedThings", name := "find", desc := "(Ljava/lang/String;[Ljava/lang/String;)I" } : Jvm.MethodName) prog_1_method_6_code (3 : Nat) (Option.some Jvm.ClassFile.FieldType.int)) ∈ lw_all := lw_g (lw_at lw_m3 124 rfl) rfl
theorem q762 : (Jvm.Cond.methodLink "MendedThings" (18 : Nat) ({ cls := "java/lang/String", name := "equals", desc := "(Ljava/lang/Object;)Z" } : Jvm.MethodName)) ∈ lw_all := lw_g (lw_at lw_m3 125 rfl) rfl
theorem q815 : (Jvm.Cond.static ({ cls := "MendedThings", name := "is", desc := "(III)Z" } : Jvm.MethodName)) ∈ lw_all := lw_g (lw_at lw_m3 178 rfl) rfl
theorem q816 : (Jvm.Cond.code ({ cls := "MendedThings", name := "is", desc := "(III)Z" } : Jvm.MethodName) prog_1_method_1_code (3 : Nat) (Option.some Jvm.ClassFile.FieldType.boolean)) ∈ lw_all := lw_g (lw_at lw_m3 179 rfl) rfl
theorem q830 : (Jvm.Cond.fieldLinkNest "MendedThings" (174 : Nat) "MendedThings$Thing" "worth" "I" "MendedThings") ∈ lw_tbl := lw_at lw_m3 193 rfl
theorem q833 : (Jvm.Cond.fieldLinkNest "MendedThings" (171 : Nat) "MendedThings$Thing" "use" "I" "MendedThings") ∈ lw_tbl := lw_at lw_m3 196 rfl
theorem q836 : (Jvm.Cond.fieldLinkNest "MendedThings" (213 : Nat) "MendedThings$Thing" "frail" "I" "MendedThings") ∈ lw_tbl := lw_at lw_m3 199 rfl
theorem q886 : (Jvm.Cond.selects "MendedThings" ({ cls := "java/lang/Object", name := "getClass", desc := "()Ljava/lang/Class;" } : Jvm.MethodName) ({ cls := "java/lang/Object", name := "getClass", desc := "()Ljava/lang/Class;" } : Jvm.MethodName)) ∈ lw_all := lw_g (lw_at lw_m4 9 rfl) rfl
theorem q933 : (Jvm.Cond.fieldLinkNest "MendedThings" (241 : Nat) "MendedThings$Mender" "skill" "I" "MendedThings") ∈ lw_tbl := lw_at lw_m4 56 rfl
theorem q936 : (Jvm.Cond.fieldLinkNest "MendedThings" (244 : Nat) "MendedThings$Mender" "hours" "I" "MendedThings") ∈ lw_tbl := lw_at lw_m4 59 rfl
theorem q1092 : (Jvm.Cond.laysStatic "MendedThings" "ASKED" "[Ljava/lang/String;") ∈ lw_tbl := lw_at lw_m4 215 rfl
theorem q1094 : (Jvm.Cond.static ({ cls := "MendedThings", name := "has", desc := "(II)Z" } : Jvm.MethodName)) ∈ lw_all := lw_g (lw_at lw_m4 217 rfl) rfl
theorem q1095 : (Jvm.Cond.code ({ cls := "MendedThings", name := "has", desc := "(II)Z" } : Jvm.MethodName) prog_1_method_2_code (2 : Nat) (Option.some Jvm.ClassFile.FieldType.boolean)) ∈ lw_all := lw_g (lw_at lw_m4 218 rfl) rfl
theorem q1107 : (Jvm.Cond.laysStatic "MendedThings" "LOOKED" "[Ljava/lang/String;") ∈ lw_tbl := lw_at lw_m4 230 rfl
theorem q1218 : (Jvm.Cond.fieldLinkNest "MendedThings" (256 : Nat) "MendedThings$Trial" "test" "LMendedThings$Test;" "MendedThings") ∈ lw_tbl := lw_at lw_m5 101 rfl
theorem q1242 : (Jvm.Cond.instanceMethod ({ cls := "MendedThings", name := "fault", desc := "(I)I" } : Jvm.MethodName)) ∈ lw_all := lw_g (lw_at lw_m5 125 rfl) rfl
theorem q1243 : (Jvm.Cond.selects "MendedThings" ({ cls := "MendedThings", name := "fault", desc := "(I)I" } : Jvm.MethodName) ({ cls := "MendedThings", name := "fault", desc := "(I)I" } : Jvm.MethodName)) ∈ lw_all := lw_g (lw_at lw_m5 126 rfl) rfl
theorem q1244 : (Jvm.Cond.code ({ cls := "MendedThings", name := "fault", desc := "(I)I" } : Jvm.MethodName) prog_1_method_14_code (2 : Nat) (Option.some Jvm.ClassFile.FieldType.int)) ∈ lw_all := lw_g (lw_at lw_m5 127 rfl) rfl
theorem q1246 : (Jvm.Cond.instanceMethod ({ cls := "MendedThings", name := "has", desc := "(I)I" } : Jvm.MethodName)) ∈ lw_all := lw_g (lw_at lw_m5 129 rfl) rfl
theorem q1247 : (Jvm.Cond.selects "MendedThings" ({ cls := "MendedThings", name := "has", desc := "(I)I" } : Jvm.MethodName) ({ cls := "MendedThings", name := "has", desc := "(I)I" } : Jvm.MethodName)) ∈ lw_all := lw_g (lw_at lw_m5 130 rfl) rfl
theorem q1248 : (Jvm.Cond.code ({ cls := "MendedThings", name := "has", desc := "(I)I" } : Jvm.MethodName) prog_1_method_25_code (2 : Nat) (Option.some Jvm.ClassFile.FieldType.int)) ∈ lw_all := lw_g (lw_at lw_m5 131 rfl) rfl
theorem q1249 : (Jvm.Cond.methodLink "MendedThings" (149 : Nat) ({ cls := "MendedThings", name := "things", desc := "()I" } : Jvm.MethodName)) ∈ lw_all := lw_g (lw_at lw_m5 132 rfl) rfl
theorem q1250 : (Jvm.Cond.privateMethod ({ cls := "MendedThings", name := "things", desc := "()I" } : Jvm.MethodName)) ∈ lw_tbl := lw_at lw_m5 133 rfl
theorem q1251 : (Jvm.Cond.instanceMethod ({ cls := "MendedThings", name := "things", desc := "()I" } : Jvm.MethodName)) ∈ lw_all := lw_g (lw_at lw_m5 134 rfl) rfl
theorem q1252 : (Jvm.Cond.code ({ cls := "MendedThings", name := "things", desc := "()I" } : Jvm.MethodName) prog_1_method_15_code (1 : Nat) (Option.some Jvm.ClassFile.FieldType.int)) ∈ lw_all := lw_g (lw_at lw_m5 135 rfl) rfl
theorem q1253 : (Jvm.Cond.interfaceEntry "MendedThings" (138 : Nat)) ∈ lw_tbl := lw_at lw_m5 136 rfl
theorem q1254 : (Jvm.Cond.methodLink "MendedThings" (138 : Nat) ({ cls := "java/util/List", name := "size", desc := "()I" } : Jvm.MethodName)) ∈ lw_all := lw_g (lw_at lw_m5 137 rfl) rfl
theorem q1255 : (Jvm.Cond.methodLink "MendedThings" (151 : Nat) ({ cls := "MendedThings", name := "menders", desc := "()I" } : Jvm.MethodName)) ∈ lw_all := lw_g (lw_at lw_m5 138 rfl) rfl
theorem q1256 : (Jvm.Cond.privateMethod ({ cls := "MendedThings", name := "menders", desc := "()I" } : Jvm.MethodName)) ∈ lw_tbl := lw_at lw_m5 139 rfl
theorem q1257 : (Jvm.Cond.instanceMethod ({ cls := "MendedThings", name := "menders", desc := "()I" } : Jvm.MethodName)) ∈ lw_all := lw_g (lw_at lw_m5 140 rfl) rfl
theorem q1258 : (Jvm.Cond.code ({ cls := "MendedThings", name := "menders", desc := "()I" } : Jvm.MethodName) prog_1_method_16_code (1 : Nat) (Option.some Jvm.ClassFile.FieldType.int)) ∈ lw_all := lw_g (lw_at lw_m5 141 rfl) rfl
theorem q1259 : (Jvm.Cond.methodLink "MendedThings" (153 : Nat) ({ cls := "MendedThings", name := "trials", desc := "()I" } : Jvm.MethodName)) ∈ lw_all := lw_g (lw_at lw_m5 142 rfl) rfl
theorem q1260 : (Jvm.Cond.privateMethod ({ cls := "MendedThings", name := "trials", desc := "()I" } : Jvm.MethodName)) ∈ lw_tbl := lw_at lw_m5 143 rfl
theorem q1261 : (Jvm.Cond.instanceMethod ({ cls := "MendedThings", name := "trials", desc := "()I" } : Jvm.MethodName)) ∈ lw_all := lw_g (lw_at lw_m5 144 rfl) rfl
theorem q1262 : (Jvm.Cond.code ({ cls := "MendedThings", name := "trials", desc := "()I" } : Jvm.MethodName) prog_1_method_17_code (1 : Nat) (Option.some Jvm.ClassFile.FieldType.int)) ∈ lw_all := lw_g (lw_at lw_m5 145 rfl) rfl
theorem q1263 : (Jvm.Cond.methodLink "MendedThings" (180 : Nat) ({ cls := "MendedThings$State", name := "are", desc := "(I)I" } : Jvm.MethodName)) ∈ lw_all := lw_g (lw_at lw_m5 146 rfl) rfl
theorem q1268 : (Jvm.Cond.methodLink "MendedThings" (183 : Nat) ({ cls := "java/lang/Integer", name := "bitCount", desc := "(I)I" } : Jvm.MethodName)) ∈ lw_all := lw_g (lw_at lw_m5 151 rfl) rfl
theorem q1274 : (Jvm.Cond.methodLink "MendedThings" (188 : Nat) ({ cls := "MendedThings$State", name := "standing", desc := "()I" } : Jvm.MethodName)) ∈ lw_all := lw_g (lw_at lw_m5 157 rfl) rfl
theorem q1291 : (Jvm.Cond.privateMethod ({ cls := "MendedThings", name := "thingOf", desc := "(I)LMendedThings$Thing;" } : Jvm.MethodName)) ∈ lw_tbl := lw_at lw_m5 174 rfl
theorem q1292 : (Jvm.Cond.instanceMethod ({ cls := "MendedThings", name := "thingOf", desc := "(I)LMendedThings$Thing;" } : Jvm.MethodName)) ∈ lw_all := lw_g (lw_at lw_m5 175 rfl) rfl
theorem q1293 : (Jvm.Cond.code ({ cls := "MendedThings", name := "thingOf", desc := "(I)LMendedThings$Thing;" } : Jvm.MethodName) prog_1_method_21_code (2 : Nat) (Option.some (Jvm.ClassFile.FieldType.object "MendedThings$Thing"))) ∈ lw_all := lw_g (lw_at lw_m5 176 rfl) rfl
theorem q1294 : (Jvm.Cond.interfaceEntry "MendedThings" (155 : Nat)) ∈ lw_tbl := lw_at lw_m5 177 rfl
theorem q1295 : (Jvm.Cond.methodLink "MendedThings" (155 : Nat) ({ cls := "java/util/List", name := "get", desc := "(I)Ljava/lang/Object;" } : Jvm.MethodName)) ∈ lw_all := lw_g (lw_at lw_m5 178 rfl) rfl
theorem q1296 : (Jvm.Cond.classLink "MendedThings" (159 : Nat) "MendedThings$Thing") ∈ lw_all := lw_g (lw_at lw_m5 179 rfl) rfl
theorem q1324 : (Jvm.Cond.static ({ cls := "MendedThings", name := "held", desc := "(J)J" } : Jvm.MethodName)) ∈ lw_all := lw_g (lw_at lw_m5 207 rfl) rfl
theorem q1325 : (Jvm.Cond.code ({ cls := "MendedThings", name := "held", desc := "(J)J" } : Jvm.MethodName) prog_1_method_3_code (2 : Nat) (Option.some Jvm.ClassFile.FieldType.long)) ∈ lw_all := lw_g (lw_at lw_m5 208 rfl) rfl
theorem q1326 : (Jvm.Cond.constantLong "MendedThings" (5 : Nat) (-1000000 : Int64)) ∈ lw_all := lw_g (lw_at lw_m5 209 rfl) rfl
theorem q1327 : (Jvm.Cond.constantLong "MendedThings" (7 : Nat) (1000000 : Int64)) ∈ lw_all := lw_g (lw_at lw_m5 210 rfl) rfl
theorem q1328 : (Jvm.Cond.methodLink "MendedThings" (9 : Nat) ({ cls := "java/lang/Math", name := "min", desc := "(JJ)J" } : Jvm.MethodName)) ∈ lw_all := lw_g (lw_at lw_m5 211 rfl) rfl
theorem q1331 : (Jvm.Cond.methodLink "MendedThings" (15 : Nat) ({ cls := "java/lang/Math", name := "max", desc := "(JJ)J" } : Jvm.MethodName)) ∈ lw_all := lw_g (lw_at lw_m5 214 rfl) rfl
theorem q1350 : (Jvm.Cond.privateMethod ({ cls := "MendedThings", name := "looked", desc := "(IJ)J" } : Jvm.MethodName)) ∈ lw_tbl := lw_at lw_m5 233 rfl
theorem q1351 : (Jvm.Cond.instanceMethod ({ cls := "MendedThings", name := "looked", desc := "(IJ)J" } : Jvm.MethodName)) ∈ lw_all := lw_g (lw_at lw_m5 234 rfl) rfl
theorem q1352 : (Jvm.Cond.code ({ cls := "MendedThings", name := "looked", desc := "(IJ)J" } : Jvm.MethodName) prog_1_method_57_code (4 : Nat) (Option.some Jvm.ClassFile.FieldType.long)) ∈ lw_all := lw_g (lw_at lw_m5 235 rfl) rfl
theorem q1353 : (Jvm.Cond.methodLink "MendedThings" (267 : Nat) ({ cls := "MendedThings", name := "holdsFor", desc := "(II)Z" } : Jvm.MethodName)) ∈ lw_all := lw_g (lw_at lw_m5 236 rfl) rfl
theorem q1354 : (Jvm.Cond.privateMethod ({ cls := "MendedThings", name := "holdsFor", desc := "(II)Z" } : Jvm.MethodName)) ∈ lw_tbl := lw_at lw_m5 237 rfl
theorem q1355 : (Jvm.Cond.instanceMethod ({ cls := "MendedThings", name := "holdsFor", desc := "(II)Z" } : Jvm.MethodName)) ∈ lw_all := lw_g (lw_at lw_m5 238 rfl) rfl
theorem q1356 : (Jvm.Cond.code ({ cls := "MendedThings", name := "holdsFor", desc := "(II)Z" } : Jvm.MethodName) prog_1_method_31_code (3 : Nat) (Option.some Jvm.ClassFile.FieldType.boolean)) ∈ lw_all := lw_g (lw_at lw_m5 239 rfl) rfl
theorem q1357 : (Jvm.Cond.classLink "MendedThings" (254 : Nat) "MendedThings$Trial") ∈ lw_all := lw_g (lw_at lw_m6 0 rfl) rfl
theorem q1358 : (Jvm.Cond.methodLinkNest "MendedThings" (260 : Nat) ({ cls := "MendedThings$State", name := "holds", desc := "(LMendedThings$Test;I)Z" } : Jvm.MethodName) "MendedThings") ∈ lw_tbl := lw_at lw_m6 1 rfl
theorem q1384 : (Jvm.Cond.methodLink "MendedThings" (191 : Nat) ({ cls := "MendedThings$State", name := "forged", desc := "()I" } : Jvm.MethodName)) ∈ lw_all := lw_g (lw_at lw_m6 27 rfl) rfl
theorem q1388 : (Jvm.Cond.methodLink "MendedThings" (194 : Nat) ({ cls := "MendedThings", name := "useOf", desc := "(I)I" } : Jvm.MethodName)) ∈ lw_all := lw_g (lw_at lw_m6 31 rfl) rfl
theorem q1389 : (Jvm.Cond.privateMethod ({ cls := "MendedThings", name := "useOf", desc := "(I)I" } : Jvm.MethodName)) ∈ lw_tbl := lw_at lw_m6 32 rfl
theorem q1390 : (Jvm.Cond.instanceMethod ({ cls := "MendedThings", name := "useOf", desc := "(I)I" } : Jvm.MethodName)) ∈ lw_all := lw_g (lw_at lw_m6 33 rfl) rfl
theorem q1391 : (Jvm.Cond.code ({ cls := "MendedThings", name := "useOf", desc := "(I)I" } : Jvm.MethodName) prog_1_method_23_code (4 : Nat) (Option.some Jvm.ClassFile.FieldType.int)) ∈ lw_all := lw_g (lw_at lw_m6 34 rfl) rfl
theorem q1392 : (Jvm.Cond.methodLink "MendedThings" (163 : Nat) ({ cls := "MendedThings", name := "has", desc := "(II)Z" } : Jvm.MethodName)) ∈ lw_all := lw_g (lw_at lw_m6 35 rfl) rfl
theorem q1393 : (Jvm.Cond.methodLink "MendedThings" (167 : Nat) ({ cls := "MendedThings", name := "thingOf", desc := "(I)LMendedThings$Thing;" } : Jvm.MethodName)) ∈ lw_all := lw_g (lw_at lw_m6 36 rfl) rfl
theorem q1395 : (Jvm.Cond.instanceMethod ({ cls := "MendedThings", name := "letter", desc := "(III)I" } : Jvm.MethodName)) ∈ lw_all := lw_g (lw_at lw_m6 38 rfl) rfl
theorem q1396 : (Jvm.Cond.selects "MendedThings" ({ cls := "MendedThings", name := "letter", desc := "(III)I" } : Jvm.MethodName) ({ cls := "MendedThings", name := "letter", desc := "(III)I" } : Jvm.MethodName)) ∈ lw_all := lw_g (lw_at lw_m6 39 rfl) rfl
theorem q1397 : (Jvm.Cond.code ({ cls := "MendedThings", name := "letter", desc := "(III)I" } : Jvm.MethodName) prog_1_method_26_code (5 : Nat) (Option.some Jvm.ClassFile.FieldType.int)) ∈ lw_all := lw_g (lw_at lw_m6 40 rfl) rfl
theorem q1398 : (Jvm.Cond.methodLink "MendedThings" (200 : Nat) ({ cls := "MendedThings", name := "is", desc := "(III)Z" } : Jvm.MethodName)) ∈ lw_all := lw_g (lw_at lw_m6 41 rfl) rfl
theorem q1399 : (Jvm.Cond.classLink "MendedThings" (204 : Nat) "MendedThings$Named") ∈ lw_all := lw_g (lw_at lw_m6 42 rfl) rfl
theorem q1400 : (Jvm.Cond.methodLink "MendedThings" (206 : Nat) ({ cls := "MendedThings$Named", name := "letter", desc := "(I)I" } : Jvm.MethodName)) ∈ lw_all := lw_g (lw_at lw_m6 43 rfl) rfl
theorem q1420 : (Jvm.Cond.instanceMethod ({ cls := "MendedThings", name := "thing", desc := "(II)I" } : Jvm.MethodName)) ∈ lw_all := lw_g (lw_at lw_m6 63 rfl) rfl
theorem q1421 : (Jvm.Cond.selects "MendedThings" ({ cls := "MendedThings", name := "thing", desc := "(II)I" } : Jvm.MethodName) ({ cls := "MendedThings", name := "thing", desc := "(II)I" } : Jvm.MethodName)) ∈ lw_all := lw_g (lw_at lw_m6 64 rfl) rfl
theorem q1422 : (Jvm.Cond.code ({ cls := "MendedThings", name := "thing", desc := "(II)I" } : Jvm.MethodName) prog_1_method_27_code (4 : Nat) (Option.some Jvm.ClassFile.FieldType.int)) ∈ lw_all := lw_g (lw_at lw_m6 65 rfl) rfl
theorem q1423 : (Jvm.Cond.methodLink "MendedThings" (209 : Nat) ({ cls := "MendedThings", name := "isThing", desc := "(I)Z" } : Jvm.MethodName)) ∈ lw_all := lw_g (lw_at lw_m6 66 rfl) rfl
theorem q1424 : (Jvm.Cond.privateMethod ({ cls := "MendedThings", name := "isThing", desc := "(I)Z" } : Jvm.MethodName)) ∈ lw_tbl := lw_at lw_m6 67 rfl
theorem q1425 : (Jvm.Cond.instanceMethod ({ cls := "MendedThings", name := "isThing", desc := "(I)Z" } : Jvm.MethodName)) ∈ lw_all := lw_g (lw_at lw_m6 68 rfl) rfl
theorem q1426 : (Jvm.Cond.code ({ cls := "MendedThings", name := "isThing", desc := "(I)Z" } : Jvm.MethodName) prog_1_method_18_code (2 : Nat) (Option.some Jvm.ClassFile.FieldType.boolean)) ∈ lw_all := lw_g (lw_at lw_m6 69 rfl) rfl
theorem q1427 : (Jvm.Cond.methodLink "MendedThings" (231 : Nat) ({ cls := "MendedThings$State", name := "stands", desc := "(I)Z" } : Jvm.MethodName)) ∈ lw_all := lw_g (lw_at lw_m6 70 rfl) rfl
theorem q1429 : (Jvm.Cond.instanceMethod ({ cls := "MendedThings", name := "mender", desc := "(II)I" } : Jvm.MethodName)) ∈ lw_all := lw_g (lw_at lw_m6 72 rfl) rfl
theorem q1430 : (Jvm.Cond.selects "MendedThings" ({ cls := "MendedThings", name := "mender", desc := "(II)I" } : Jvm.MethodName) ({ cls := "MendedThings", name := "mender", desc := "(II)I" } : Jvm.MethodName)) ∈ lw_all := lw_g (lw_at lw_m6 73 rfl) rfl
theorem q1431 : (Jvm.Cond.code ({ cls := "MendedThings", name := "mender", desc := "(II)I" } : Jvm.MethodName) prog_1_method_28_code (3 : Nat) (Option.some Jvm.ClassFile.FieldType.int)) ∈ lw_all := lw_g (lw_at lw_m6 74 rfl) rfl
theorem q1432 : (Jvm.Cond.methodLink "MendedThings" (234 : Nat) ({ cls := "MendedThings", name := "isMender", desc := "(I)Z" } : Jvm.MethodName)) ∈ lw_all := lw_g (lw_at lw_m6 75 rfl) rfl
theorem q1433 : (Jvm.Cond.privateMethod ({ cls := "MendedThings", name := "isMender", desc := "(I)Z" } : Jvm.MethodName)) ∈ lw_tbl := lw_at lw_m6 76 rfl
theorem q1434 : (Jvm.Cond.instanceMethod ({ cls := "MendedThings", name := "isMender", desc := "(I)Z" } : Jvm.MethodName)) ∈ lw_all := lw_g (lw_at lw_m6 77 rfl) rfl
theorem q1435 : (Jvm.Cond.code ({ cls := "MendedThings", name := "isMender", desc := "(I)Z" } : Jvm.MethodName) prog_1_method_19_code (2 : Nat) (Option.some Jvm.ClassFile.FieldType.boolean)) ∈ lw_all := lw_g (lw_at lw_m6 78 rfl) rfl
theorem q1436 : (Jvm.Cond.methodLink "MendedThings" (237 : Nat) ({ cls := "MendedThings", name := "menderOf", desc := "(I)LMendedThings$Mender;" } : Jvm.MethodName)) ∈ lw_all := lw_g (lw_at lw_m6 79 rfl) rfl
theorem q1437 : (Jvm.Cond.privateMethod ({ cls := "MendedThings", name := "menderOf", desc := "(I)LMendedThings$Mender;" } : Jvm.MethodName)) ∈ lw_tbl := lw_at lw_m6 80 rfl
theorem q1438 : (Jvm.Cond.instanceMethod ({ cls := "MendedThings", name := "menderOf", desc := "(I)LMendedThings$Mender;" } : Jvm.MethodName)) ∈ lw_all := lw_g (lw_at lw_m6 81 rfl) rfl
theorem q1439 : (Jvm.Cond.code ({ cls := "MendedThings", name := "menderOf", desc := "(I)LMendedThings$Mender;" } : Jvm.MethodName) prog_1_method_22_code (2 : Nat) (Option.some (Jvm.ClassFile.FieldType.object "MendedThings$Mender"))) ∈ lw_all := lw_g (lw_at lw_m6 82 rfl) rfl
theorem q1440 : (Jvm.Cond.classLink "MendedThings" (161 : Nat) "MendedThings$Mender") ∈ lw_all := lw_g (lw_at lw_m6 83 rfl) rfl
theorem q1442 : (Jvm.Cond.instanceMethod ({ cls := "MendedThings", name := "takes", desc := "(II)I" } : Jvm.MethodName)) ∈ lw_all := lw_g (lw_at lw_m6 85 rfl) rfl
theorem q1443 : (Jvm.Cond.selects "MendedThings" ({ cls := "MendedThings", name := "takes", desc := "(II)I" } : Jvm.MethodName) ({ cls := "MendedThings", name := "takes", desc := "(II)I" } : Jvm.MethodName)) ∈ lw_all := lw_g (lw_at lw_m6 86 rfl) rfl
theorem q1444 : (Jvm.Cond.code ({ cls := "MendedThings", name := "takes", desc := "(II)I" } : Jvm.MethodName) prog_1_method_29_code (3 : Nat) (Option.some Jvm.ClassFile.FieldType.int)) ∈ lw_all := lw_g (lw_at lw_m6 87 rfl) rfl
theorem q1445 : (Jvm.Cond.methodLink "MendedThings" (247 : Nat) ({ cls := "MendedThings$State", name := "takes", desc := "(II)I" } : Jvm.MethodName)) ∈ lw_all := lw_g (lw_at lw_m6 88 rfl) rfl
theorem q1459 : (Jvm.Cond.instanceMethod ({ cls := "MendedThings", name := "fine", desc := "(II)I" } : Jvm.MethodName)) ∈ lw_all := lw_g (lw_at lw_m6 102 rfl) rfl
theorem q1460 : (Jvm.Cond.selects "MendedThings" ({ cls := "MendedThings", name := "fine", desc := "(II)I" } : Jvm.MethodName) ({ cls := "MendedThings", name := "fine", desc := "(II)I" } : Jvm.MethodName)) ∈ lw_all := lw_g (lw_at lw_m6 103 rfl) rfl
theorem q1461 : (Jvm.Cond.code ({ cls := "MendedThings", name := "fine", desc := "(II)I" } : Jvm.MethodName) prog_1_method_30_code (3 : Nat) (Option.some Jvm.ClassFile.FieldType.int)) ∈ lw_all := lw_g (lw_at lw_m6 104 rfl) rfl
theorem q1462 : (Jvm.Cond.methodLink "MendedThings" (251 : Nat) ({ cls := "MendedThings$State", name := "fine", desc := "(II)I" } : Jvm.MethodName)) ∈ lw_all := lw_g (lw_at lw_m6 105 rfl) rfl
theorem q1467 : (Jvm.Cond.instanceMethod ({ cls := "MendedThings", name := "trial", desc := "(II)I" } : Jvm.MethodName)) ∈ lw_all := lw_g (lw_at lw_m6 110 rfl) rfl
theorem q1468 : (Jvm.Cond.selects "MendedThings" ({ cls := "MendedThings", name := "trial", desc := "(II)I" } : Jvm.MethodName) ({ cls := "MendedThings", name := "trial", desc := "(II)I" } : Jvm.MethodName)) ∈ lw_all := lw_g (lw_at lw_m6 111 rfl) rfl
theorem q1469 : (Jvm.Cond.code ({ cls := "MendedThings", name := "trial", desc := "(II)I" } : Jvm.MethodName) prog_1_method_32_code (3 : Nat) (Option.some Jvm.ClassFile.FieldType.int)) ∈ lw_all := lw_g (lw_at lw_m6 112 rfl) rfl
theorem q1470 : (Jvm.Cond.methodLink "MendedThings" (264 : Nat) ({ cls := "MendedThings", name := "isTrial", desc := "(I)Z" } : Jvm.MethodName)) ∈ lw_all := lw_g (lw_at lw_m6 113 rfl) rfl
theorem q1471 : (Jvm.Cond.privateMethod ({ cls := "MendedThings", name := "isTrial", desc := "(I)Z" } : Jvm.MethodName)) ∈ lw_tbl := lw_at lw_m6 114 rfl
theorem q1472 : (Jvm.Cond.instanceMethod ({ cls := "MendedThings", name := "isTrial", desc := "(I)Z" } : Jvm.MethodName)) ∈ lw_all := lw_g (lw_at lw_m6 115 rfl) rfl
theorem q1473 : (Jvm.Cond.code ({ cls := "MendedThings", name := "isTrial", desc := "(I)Z" } : Jvm.MethodName) prog_1_method_20_code (2 : Nat) (Option.some Jvm.ClassFile.FieldType.boolean)) ∈ lw_all := lw_g (lw_at lw_m6 116 rfl) rfl
theorem q1475 : (Jvm.Cond.instanceMethod ({ cls := "MendedThings", name := "kept", desc := "(II)I" } : Jvm.MethodName)) ∈ lw_all := lw_g (lw_at lw_m6 118 rfl) rfl
theorem q1476 : (Jvm.Cond.selects "MendedThings" ({ cls := "MendedThings", name := "kept", desc := "(II)I" } : Jvm.MethodName) ({ cls := "MendedThings", name := "kept", desc := "(II)I" } : Jvm.MethodName)) ∈ lw_all := lw_g (lw_at lw_m6 119 rfl) rfl
theorem q1477 : (Jvm.Cond.code ({ cls := "MendedThings", name := "kept", desc := "(II)I" } : Jvm.MethodName) prog_1_method_33_code (3 : Nat) (Option.some Jvm.ClassFile.FieldType.int)) ∈ lw_all := lw_g (lw_at lw_m6 120 rfl) rfl
theorem q1479 : (Jvm.Cond.instanceMethod ({ cls := "MendedThings", name := "later", desc := "(II)I" } : Jvm.MethodName)) ∈ lw_all := lw_g (lw_at lw_m6 122 rfl) rfl
theorem q1480 : (Jvm.Cond.selects "MendedThings" ({ cls := "MendedThings", name := "later", desc := "(II)I" } : Jvm.MethodName) ({ cls := "MendedThings", name := "later", desc := "(II)I" } : Jvm.MethodName)) ∈ lw_all := lw_g (lw_at lw_m6 123 rfl) rfl
theorem q1481 : (Jvm.Cond.code ({ cls := "MendedThings", name := "later", desc := "(II)I" } : Jvm.MethodName) prog_1_method_35_code (5 : Nat) (Option.some Jvm.ClassFile.FieldType.int)) ∈ lw_all := lw_g (lw_at lw_m6 124 rfl) rfl
theorem q1482 : (Jvm.Cond.methodLink "MendedThings" (274 : Nat) ({ cls := "MendedThings", name := "isAhead", desc := "(III)Z" } : Jvm.MethodName)) ∈ lw_all := lw_g (lw_at lw_m6 125 rfl) rfl
theorem q1483 : (Jvm.Cond.privateMethod ({ cls := "MendedThings", name := "isAhead", desc := "(III)Z" } : Jvm.MethodName)) ∈ lw_tbl := lw_at lw_m6 126 rfl
theorem q1484 : (Jvm.Cond.instanceMethod ({ cls := "MendedThings", name := "isAhead", desc := "(III)Z" } : Jvm.MethodName)) ∈ lw_all := lw_g (lw_at lw_m6 127 rfl) rfl
theorem q1485 : (Jvm.Cond.code ({ cls := "MendedThings", name := "isAhead", desc := "(III)Z" } : Jvm.MethodName) prog_1_method_34_code (4 : Nat) (Option.some Jvm.ClassFile.FieldType.boolean)) ∈ lw_all := lw_g (lw_at lw_m6 128 rfl) rfl
theorem q1486 : (Jvm.Cond.methodLink "MendedThings" (277 : Nat) ({ cls := "MendedThings$State", name := "copy", desc := "(LMendedThings$State;)LMendedThings$State;" } : Jvm.MethodName)) ∈ lw_all := lw_g (lw_at lw_m6 129 rfl) rfl
theorem q1490 : (Jvm.Cond.methodLink "MendedThings" (281 : Nat) ({ cls := "MendedThings$State", name := "passes", desc := "()I" } : Jvm.MethodName)) ∈ lw_all := lw_g (lw_at lw_m6 133 rfl) rfl
theorem q1526 : (Jvm.Cond.instanceMethod ({ cls := "MendedThings", name := "breaks", desc := "(I)I" } : Jvm.MethodName)) ∈ lw_all := lw_g (lw_at lw_m6 169 rfl) rfl
theorem q1527 : (Jvm.Cond.selects "MendedThings" ({ cls := "MendedThings", name := "breaks", desc := "(I)I" } : Jvm.MethodName) ({ cls := "MendedThings", name := "breaks", desc := "(I)I" } : Jvm.MethodName)) ∈ lw_all := lw_g (lw_at lw_m6 170 rfl) rfl
theorem q1528 : (Jvm.Cond.code ({ cls := "MendedThings", name := "breaks", desc := "(I)I" } : Jvm.MethodName) prog_1_method_36_code (3 : Nat) (Option.some Jvm.ClassFile.FieldType.int)) ∈ lw_all := lw_g (lw_at lw_m6 171 rfl) rfl
theorem q1530 : (Jvm.Cond.instanceMethod ({ cls := "MendedThings", name := "house", desc := "(II)I" } : Jvm.MethodName)) ∈ lw_all := lw_g (lw_at lw_m6 173 rfl) rfl
theorem q1531 : (Jvm.Cond.selects "MendedThings" ({ cls := "MendedThings", name := "house", desc := "(II)I" } : Jvm.MethodName) ({ cls := "MendedThings", name := "house", desc := "(II)I" } : Jvm.MethodName)) ∈ lw_all := lw_g (lw_at lw_m6 174 rfl) rfl
theorem q1532 : (Jvm.Cond.code ({ cls := "MendedThings", name := "house", desc := "(II)I" } : Jvm.MethodName) prog_1_method_37_code (8 : Nat) (Option.some Jvm.ClassFile.FieldType.int)) ∈ lw_all := lw_g (lw_at lw_m6 175 rfl) rfl
theorem q1533 : (Jvm.Cond.methodLink "MendedThings" (287 : Nat) ({ cls := "MendedThings", name := "worthOf", desc := "(I)I" } : Jvm.MethodName)) ∈ lw_all := lw_g (lw_at lw_m6 176 rfl) rfl
theorem q1534 : (Jvm.Cond.privateMethod ({ cls := "MendedThings", name := "worthOf", desc := "(I)I" } : Jvm.MethodName)) ∈ lw_tbl := lw_at lw_m6 177 rfl
theorem q1535 : (Jvm.Cond.instanceMethod ({ cls := "MendedThings", name := "worthOf", desc := "(I)I" } : Jvm.MethodName)) ∈ lw_all := lw_g (lw_at lw_m6 178 rfl) rfl
theorem q1536 : (Jvm.Cond.code ({ cls := "MendedThings", name := "worthOf", desc := "(I)I" } : Jvm.MethodName) prog_1_method_24_code (4 : Nat) (Option.some Jvm.ClassFile.FieldType.int)) ∈ lw_all := lw_g (lw_at lw_m6 179 rfl) rfl
theorem q1537 : (Jvm.Cond.methodLink "MendedThings" (290 : Nat) ({ cls := "MendedThings$State", name := "breaks", desc := "(I)V" } : Jvm.MethodName)) ∈ lw_all := lw_g (lw_at lw_m6 180 rfl) rfl
theorem q1538 : (Jvm.Cond.methodLink "MendedThings" (292 : Nat) ({ cls := "MendedThings$State", name := "isMended", desc := "(II)V" } : Jvm.MethodName)) ∈ lw_all := lw_g (lw_at lw_m6 181 rfl) rfl
theorem q1540 : (Jvm.Cond.instanceMethod ({ cls := "MendedThings", name := "gain", desc := "(II)J" } : Jvm.MethodName)) ∈ lw_all := lw_g (lw_at lw_m6 183 rfl) rfl
theorem q1541 : (Jvm.Cond.selects "MendedThings" ({ cls := "MendedThings", name := "gain", desc := "(II)J" } : Jvm.MethodName) ({ cls := "MendedThings", name := "gain", desc := "(II)J" } : Jvm.MethodName)) ∈ lw_all := lw_g (lw_at lw_m6 184 rfl) rfl
theorem q1542 : (Jvm.Cond.code ({ cls := "MendedThings", name := "gain", desc := "(II)J" } : Jvm.MethodName) prog_1_method_38_code (3 : Nat) (Option.some Jvm.ClassFile.FieldType.long)) ∈ lw_all := lw_g (lw_at lw_m6 185 rfl) rfl
theorem q1543 : (Jvm.Cond.constantLong "MendedThings" (296 : Nat) (-1000000000000000 : Int64)) ∈ lw_all := lw_g (lw_at lw_m6 186 rfl) rfl
theorem q1545 : (Jvm.Cond.instanceMethod ({ cls := "MendedThings", name := "row", desc := "(I)I" } : Jvm.MethodName)) ∈ lw_all := lw_g (lw_at lw_m6 188 rfl) rfl
theorem q1546 : (Jvm.Cond.selects "MendedThings" ({ cls := "MendedThings", name := "row", desc := "(I)I" } : Jvm.MethodName) ({ cls := "MendedThings", name := "row", desc := "(I)I" } : Jvm.MethodName)) ∈ lw_all := lw_g (lw_at lw_m6 189 rfl) rfl
theorem q1547 : (Jvm.Cond.code ({ cls := "MendedThings", name := "row", desc := "(I)I" } : Jvm.MethodName) prog_1_method_40_code (4 : Nat) (Option.some Jvm.ClassFile.FieldType.int)) ∈ lw_all := lw_g (lw_at lw_m6 190 rfl) rfl
theorem q1548 : (Jvm.Cond.constant "MendedThings" (305 : Nat) (100000000 : Int32)) ∈ lw_all := lw_g (lw_at lw_m6 191 rfl) rfl
theorem q1549 : (Jvm.Cond.methodLink "MendedThings" (301 : Nat) ({ cls := "MendedThings", name := "places", desc := "(IIII)V" } : Jvm.MethodName)) ∈ lw_all := lw_g (lw_at lw_m6 192 rfl) rfl
theorem q1550 : (Jvm.Cond.privateMethod ({ cls := "MendedThings", name := "places", desc := "(IIII)V" } : Jvm.MethodName)) ∈ lw_tbl := lw_at lw_m6 193 rfl
theorem q1551 : (Jvm.Cond.instanceMethod ({ cls := "MendedThings", name := "places", desc := "(IIII)V" } : Jvm.MethodName)) ∈ lw_all := lw_g (lw_at lw_m6 194 rfl) rfl
theorem q1552 : (Jvm.Cond.code ({ cls := "MendedThings", name := "places", desc := "(IIII)V" } : Jvm.MethodName) prog_1_method_39_code (7 : Nat) (Option.none : Option Jvm.ClassFile.FieldType)) ∈ lw_all := lw_g (lw_at lw_m6 195 rfl) rfl
theorem q1554 : (Jvm.Cond.instanceMethod ({ cls := "MendedThings", name := "parts", desc := "()I" } : Jvm.MethodName)) ∈ lw_all := lw_g (lw_at lw_m6 197 rfl) rfl
theorem q1555 : (Jvm.Cond.selects "MendedThings" ({ cls := "MendedThings", name := "parts", desc := "()I" } : Jvm.MethodName) ({ cls := "MendedThings", name := "parts", desc := "()I" } : Jvm.MethodName)) ∈ lw_all := lw_g (lw_at lw_m6 198 rfl) rfl
theorem q1556 : (Jvm.Cond.code ({ cls := "MendedThings", name := "parts", desc := "()I" } : Jvm.MethodName) prog_1_method_42_code (3 : Nat) (Option.some Jvm.ClassFile.FieldType.int)) ∈ lw_all := lw_g (lw_at lw_m6 199 rfl) rfl
theorem q1557 : (Jvm.Cond.methodLink "MendedThings" (306 : Nat) ({ cls := "MendedThings", name := "isParted", desc := "(I)Z" } : Jvm.MethodName)) ∈ lw_all := lw_g (lw_at lw_m6 200 rfl) rfl
theorem q1558 : (Jvm.Cond.privateMethod ({ cls := "MendedThings", name := "isParted", desc := "(I)Z" } : Jvm.MethodName)) ∈ lw_tbl := lw_at lw_m6 201 rfl
theorem q1559 : (Jvm.Cond.instanceMethod ({ cls := "MendedThings", name := "isParted", desc := "(I)Z" } : Jvm.MethodName)) ∈ lw_all := lw_g (lw_at lw_m6 202 rfl) rfl
theorem q1560 : (Jvm.Cond.code ({ cls := "MendedThings", name := "isParted", desc := "(I)Z" } : Jvm.MethodName) prog_1_method_41_code (6 : Nat) (Option.some Jvm.ClassFile.FieldType.boolean)) ∈ lw_all := lw_g (lw_at lw_m6 203 rfl) rfl
theorem q1562 : (Jvm.Cond.instanceMethod ({ cls := "MendedThings", name := "lawed", desc := "(II)I" } : Jvm.MethodName)) ∈ lw_all := lw_g (lw_at lw_m6 205 rfl) rfl
theorem q1563 : (Jvm.Cond.selects "MendedThings" ({ cls := "MendedThings", name := "lawed", desc := "(II)I" } : Jvm.MethodName) ({ cls := "MendedThings", name := "lawed", desc := "(II)I" } : Jvm.MethodName)) ∈ lw_all := lw_g (lw_at lw_m6 206 rfl) rfl
theorem q1564 : (Jvm.Cond.code ({ cls := "MendedThings", name := "lawed", desc := "(II)I" } : Jvm.MethodName) prog_1_method_43_code (7 : Nat) (Option.some Jvm.ClassFile.FieldType.int)) ∈ lw_all := lw_g (lw_at lw_m6 207 rfl) rfl
theorem q1566 : (Jvm.Cond.instanceMethod ({ cls := "MendedThings", name := "see", desc := "(I)I" } : Jvm.MethodName)) ∈ lw_all := lw_g (lw_at lw_m6 209 rfl) rfl
theorem q1567 : (Jvm.Cond.selects "MendedThings" ({ cls := "MendedThings", name := "see", desc := "(I)I" } : Jvm.MethodName) ({ cls := "MendedThings", name := "see", desc := "(I)I" } : Jvm.MethodName)) ∈ lw_all := lw_g (lw_at lw_m6 210 rfl) rfl
theorem q1568 : (Jvm.Cond.code ({ cls := "MendedThings", name := "see", desc := "(I)I" } : Jvm.MethodName) prog_1_method_46_code (9 : Nat) (Option.some Jvm.ClassFile.FieldType.int)) ∈ lw_all := lw_g (lw_at lw_m6 211 rfl) rfl
theorem q1569 : (Jvm.Cond.methodLink "MendedThings" (313 : Nat) ({ cls := "MendedThings", name := "byteAt", desc := "(I)I" } : Jvm.MethodName)) ∈ lw_all := lw_g (lw_at lw_m6 212 rfl) rfl
theorem q1570 : (Jvm.Cond.privateMethod ({ cls := "MendedThings", name := "byteAt", desc := "(I)I" } : Jvm.MethodName)) ∈ lw_tbl := lw_at lw_m6 213 rfl
theorem q1571 : (Jvm.Cond.instanceMethod ({ cls := "MendedThings", name := "byteAt", desc := "(I)I" } : Jvm.MethodName)) ∈ lw_all := lw_g (lw_at lw_m6 214 rfl) rfl
theorem q1572 : (Jvm.Cond.code ({ cls := "MendedThings", name := "byteAt", desc := "(I)I" } : Jvm.MethodName) prog_1_method_44_code (2 : Nat) (Option.some Jvm.ClassFile.FieldType.int)) ∈ lw_all := lw_g (lw_at lw_m6 215 rfl) rfl
theorem q1573 : (Jvm.Cond.methodLink "MendedThings" (316 : Nat) ({ cls := "MendedThings", name := "breaksBy", desc := "(III)J" } : Jvm.MethodName)) ∈ lw_all := lw_g (lw_at lw_m6 216 rfl) rfl
theorem q1574 : (Jvm.Cond.privateMethod ({ cls := "MendedThings", name := "breaksBy", desc := "(III)J" } : Jvm.MethodName)) ∈ lw_tbl := lw_at lw_m6 217 rfl
theorem q1575 : (Jvm.Cond.instanceMethod ({ cls := "MendedThings", name := "breaksBy", desc := "(III)J" } : Jvm.MethodName)) ∈ lw_all := lw_g (lw_at lw_m6 218 rfl) rfl
theorem q1576 : (Jvm.Cond.code ({ cls := "MendedThings", name := "breaksBy", desc := "(III)J" } : Jvm.MethodName) prog_1_method_45_code (7 : Nat) (Option.some Jvm.ClassFile.FieldType.long)) ∈ lw_all := lw_g (lw_at lw_m6 219 rfl) rfl
theorem q1578 : (Jvm.Cond.instanceMethod ({ cls := "MendedThings", name := "tells", desc := "(II)I" } : Jvm.MethodName)) ∈ lw_all := lw_g (lw_at lw_m6 221 rfl) rfl
theorem q1579 : (Jvm.Cond.selects "MendedThings" ({ cls := "MendedThings", name := "tells", desc := "(II)I" } : Jvm.MethodName) ({ cls := "MendedThings", name := "tells", desc := "(II)I" } : Jvm.MethodName)) ∈ lw_all := lw_g (lw_at lw_m6 222 rfl) rfl
theorem q1580 : (Jvm.Cond.code ({ cls := "MendedThings", name := "tells", desc := "(II)I" } : Jvm.MethodName) prog_1_method_47_code (8 : Nat) (Option.some Jvm.ClassFile.FieldType.int)) ∈ lw_all := lw_g (lw_at lw_m6 223 rfl) rfl
theorem q1581 : (Jvm.Cond.methodLink "MendedThings" (320 : Nat) ({ cls := "java/lang/Math", name := "max", desc := "(II)I" } : Jvm.MethodName)) ∈ lw_all := lw_g (lw_at lw_m6 224 rfl) rfl
theorem q1583 : (Jvm.Cond.instanceMethod ({ cls := "MendedThings", name := "undo", desc := "()Z" } : Jvm.MethodName)) ∈ lw_all := lw_g (lw_at lw_m6 226 rfl) rfl
theorem q1584 : (Jvm.Cond.selects "MendedThings" ({ cls := "MendedThings", name := "undo", desc := "()Z" } : Jvm.MethodName) ({ cls := "MendedThings", name := "undo", desc := "()Z" } : Jvm.MethodName)) ∈ lw_all := lw_g (lw_at lw_m6 227 rfl) rfl
theorem q1585 : (Jvm.Cond.code ({ cls := "MendedThings", name := "undo", desc := "()Z" } : Jvm.MethodName) prog_1_method_49_code (1 : Nat) (Option.some Jvm.ClassFile.FieldType.boolean)) ∈ lw_all := lw_g (lw_at lw_m6 228 rfl) rfl
theorem q1587 : (Jvm.Cond.instanceMethod ({ cls := "MendedThings", name := "strike", desc := "(I)Z" } : Jvm.MethodName)) ∈ lw_all := lw_g (lw_at lw_m6 230 rfl) rfl
theorem q1588 : (Jvm.Cond.selects "MendedThings" ({ cls := "MendedThings", name := "strike", desc := "(I)Z" } : Jvm.MethodName) ({ cls := "MendedThings", name := "strike", desc := "(I)Z" } : Jvm.MethodName)) ∈ lw_all := lw_g (lw_at lw_m6 231 rfl) rfl
theorem q1589 : (Jvm.Cond.code ({ cls := "MendedThings", name := "strike", desc := "(I)Z" } : Jvm.MethodName) prog_1_method_50_code (2 : Nat) (Option.some Jvm.ClassFile.FieldType.boolean)) ∈ lw_all := lw_g (lw_at lw_m6 232 rfl) rfl
theorem q1590 : (Jvm.Cond.methodLink "MendedThings" (322 : Nat) ({ cls := "MendedThings", name := "keeps", desc := "()V" } : Jvm.MethodName)) ∈ lw_all := lw_g (lw_at lw_m6 233 rfl) rfl
theorem q1591 : (Jvm.Cond.privateMethod ({ cls := "MendedThings", name := "keeps", desc := "()V" } : Jvm.MethodName)) ∈ lw_tbl := lw_at lw_m6 234 rfl
theorem q1592 : (Jvm.Cond.instanceMethod ({ cls := "MendedThings", name := "keeps", desc := "()V" } : Jvm.MethodName)) ∈ lw_all := lw_g (lw_at lw_m6 235 rfl) rfl
theorem q1593 : (Jvm.Cond.code ({ cls := "MendedThings", name := "keeps", desc := "()V" } : Jvm.MethodName) prog_1_method_48_code (3 : Nat) (Option.none : Option Jvm.ClassFile.FieldType)) ∈ lw_all := lw_g (lw_at lw_m6 236 rfl) rfl
theorem q1595 : (Jvm.Cond.instanceMethod ({ cls := "MendedThings", name := "mend", desc := "(II)I" } : Jvm.MethodName)) ∈ lw_all := lw_g (lw_at lw_m6 238 rfl) rfl
theorem q1596 : (Jvm.Cond.selects "MendedThings" ({ cls := "MendedThings", name := "mend", desc := "(II)I" } : Jvm.MethodName) ({ cls := "MendedThings", name := "mend", desc := "(II)I" } : Jvm.MethodName)) ∈ lw_all := lw_g (lw_at lw_m6 239 rfl) rfl
theorem q1597 : (Jvm.Cond.code ({ cls := "MendedThings", name := "mend", desc := "(II)I" } : Jvm.MethodName) prog_1_method_51_code (3 : Nat) (Option.some Jvm.ClassFile.FieldType.int)) ∈ lw_all := lw_g (lw_at lw_m7 0 rfl) rfl
theorem q1599 : (Jvm.Cond.instanceMethod ({ cls := "MendedThings", name := "forge", desc := "(I)Z" } : Jvm.MethodName)) ∈ lw_all := lw_g (lw_at lw_m7 2 rfl) rfl
theorem q1600 : (Jvm.Cond.selects "MendedThings" ({ cls := "MendedThings", name := "forge", desc := "(I)Z" } : Jvm.MethodName) ({ cls := "MendedThings", name := "forge", desc := "(I)Z" } : Jvm.MethodName)) ∈ lw_all := lw_g (lw_at lw_m7 3 rfl) rfl
theorem q1601 : (Jvm.Cond.code ({ cls := "MendedThings", name := "forge", desc := "(I)Z" } : Jvm.MethodName) prog_1_method_52_code (2 : Nat) (Option.some Jvm.ClassFile.FieldType.boolean)) ∈ lw_all := lw_g (lw_at lw_m7 4 rfl) rfl
theorem q1603 : (Jvm.Cond.instanceMethod ({ cls := "MendedThings", name := "days", desc := "(I)I" } : Jvm.MethodName)) ∈ lw_all := lw_g (lw_at lw_m7 6 rfl) rfl
theorem q1604 : (Jvm.Cond.selects "MendedThings" ({ cls := "MendedThings", name := "days", desc := "(I)I" } : Jvm.MethodName) ({ cls := "MendedThings", name := "days", desc := "(I)I" } : Jvm.MethodName)) ∈ lw_all := lw_g (lw_at lw_m7 7 rfl) rfl
theorem q1605 : (Jvm.Cond.code ({ cls := "MendedThings", name := "days", desc := "(I)I" } : Jvm.MethodName) prog_1_method_53_code (4 : Nat) (Option.some Jvm.ClassFile.FieldType.int)) ∈ lw_all := lw_g (lw_at lw_m7 8 rfl) rfl
theorem q1607 : (Jvm.Cond.instanceMethod ({ cls := "MendedThings", name := "chance", desc := "(I)I" } : Jvm.MethodName)) ∈ lw_all := lw_g (lw_at lw_m7 10 rfl) rfl
theorem q1608 : (Jvm.Cond.selects "MendedThings" ({ cls := "MendedThings", name := "chance", desc := "(I)I" } : Jvm.MethodName) ({ cls := "MendedThings", name := "chance", desc := "(I)I" } : Jvm.MethodName)) ∈ lw_all := lw_g (lw_at lw_m7 11 rfl) rfl
theorem q1609 : (Jvm.Cond.code ({ cls := "MendedThings", name := "chance", desc := "(I)I" } : Jvm.MethodName) prog_1_method_55_code (5 : Nat) (Option.some Jvm.ClassFile.FieldType.int)) ∈ lw_all := lw_g (lw_at lw_m7 12 rfl) rfl
theorem q1610 : (Jvm.Cond.methodLink "MendedThings" (332 : Nat) ({ cls := "MendedThings", name := "draw", desc := "(I)I" } : Jvm.MethodName)) ∈ lw_all := lw_g (lw_at lw_m7 13 rfl) rfl
theorem q1611 : (Jvm.Cond.privateMethod ({ cls := "MendedThings", name := "draw", desc := "(I)I" } : Jvm.MethodName)) ∈ lw_tbl := lw_at lw_m7 14 rfl
theorem q1612 : (Jvm.Cond.instanceMethod ({ cls := "MendedThings", name := "draw", desc := "(I)I" } : Jvm.MethodName)) ∈ lw_all := lw_g (lw_at lw_m7 15 rfl) rfl
theorem q1613 : (Jvm.Cond.code ({ cls := "MendedThings", name := "draw", desc := "(I)I" } : Jvm.MethodName) prog_1_method_54_code (2 : Nat) (Option.some Jvm.ClassFile.FieldType.int)) ∈ lw_all := lw_g (lw_at lw_m7 16 rfl) rfl
theorem q1614 : (Jvm.Cond.constantLong "MendedThings" (324 : Nat) (1103515245 : Int64)) ∈ lw_all := lw_g (lw_at lw_m7 17 rfl) rfl
theorem q1615 : (Jvm.Cond.constantLong "MendedThings" (326 : Nat) (12345 : Int64)) ∈ lw_all := lw_g (lw_at lw_m7 18 rfl) rfl
theorem q1616 : (Jvm.Cond.constantLong "MendedThings" (328 : Nat) (2147483648 : Int64)) ∈ lw_all := lw_g (lw_at lw_m7 19 rfl) rfl
theorem q1617 : (Jvm.Cond.constantLong "MendedThings" (330 : Nat) (64 : Int64)) ∈ lw_all := lw_g (lw_at lw_m7 20 rfl) rfl
theorem q1619 : (Jvm.Cond.instanceMethod ({ cls := "MendedThings", name := "seed", desc := "(I)Z" } : Jvm.MethodName)) ∈ lw_all := lw_g (lw_at lw_m7 22 rfl) rfl
theorem q1620 : (Jvm.Cond.selects "MendedThings" ({ cls := "MendedThings", name := "seed", desc := "(I)Z" } : Jvm.MethodName) ({ cls := "MendedThings", name := "seed", desc := "(I)Z" } : Jvm.MethodName)) ∈ lw_all := lw_g (lw_at lw_m7 23 rfl) rfl
theorem q1621 : (Jvm.Cond.code ({ cls := "MendedThings", name := "seed", desc := "(I)Z" } : Jvm.MethodName) prog_1_method_56_code (2 : Nat) (Option.some Jvm.ClassFile.FieldType.boolean)) ∈ lw_all := lw_g (lw_at lw_m7 24 rfl) rfl
theorem q1623 : (Jvm.Cond.instanceMethod ({ cls := "MendedThings", name := "ask", desc := "()J" } : Jvm.MethodName)) ∈ lw_all := lw_g (lw_at lw_m7 26 rfl) rfl
theorem q1624 : (Jvm.Cond.selects "MendedThings" ({ cls := "MendedThings", name := "ask", desc := "()J" } : Jvm.MethodName) ({ cls := "MendedThings", name := "ask", desc := "()J" } : Jvm.MethodName)) ∈ lw_all := lw_g (lw_at lw_m7 27 rfl) rfl
theorem q1625 : (Jvm.Cond.codeWith ({ cls := "MendedThings", name := "ask", desc := "()J" } : Jvm.MethodName) prog_1_method_58_code (4 : Nat) (Option.some Jvm.ClassFile.FieldType.long) [((15 : Nat), (24 : Nat), (27 : Nat), (120 : Nat))]) ∈ lw_all := lw_g (lw_at lw_m7 28 rfl) rfl
theorem q1626 : (Jvm.Cond.methodLink "MendedThings" (341 : Nat) ({ cls := "MendedThings$Reader", name := "question", desc := "(I)LMendedThings$Question;" } : Jvm.MethodName)) ∈ lw_all := lw_g (lw_at lw_m7 29 rfl) rfl
theorem q1631 : (Jvm.Cond.laysStatic "MendedThings" "TOLD_OF" "[Ljava/lang/String;") ∈ lw_tbl := lw_at lw_m7 34 rfl
theorem q1655 : (Jvm.Cond.methodLink "MendedThings" (349 : Nat) ({ cls := "MendedThings$Question", name := "meets", desc := "(ILMendedThings$Moment;)V" } : Jvm.MethodName)) ∈ lw_all := lw_g (lw_at lw_m7 58 rfl) rfl
theorem q1663 : (Jvm.Cond.methodLink "MendedThings" (355 : Nat) ({ cls := "MendedThings$Question", name := "answer", desc := "()J" } : Jvm.MethodName)) ∈ lw_all := lw_g (lw_at lw_m7 66 rfl) rfl
theorem q1668 : (Jvm.Cond.instanceMethod ({ cls := "MendedThings", name := "image", desc := "()I" } : Jvm.MethodName)) ∈ lw_all := lw_g (lw_at lw_m7 71 rfl) rfl
theorem q1669 : (Jvm.Cond.selects "MendedThings" ({ cls := "MendedThings", name := "image", desc := "()I" } : Jvm.MethodName) ({ cls := "MendedThings", name := "image", desc := "()I" } : Jvm.MethodName)) ∈ lw_all := lw_g (lw_at lw_m7 72 rfl) rfl
theorem q1670 : (Jvm.Cond.code ({ cls := "MendedThings", name := "image", desc := "()I" } : Jvm.MethodName) prog_1_method_61_code (2 : Nat) (Option.some Jvm.ClassFile.FieldType.int)) ∈ lw_all := lw_g (lw_at lw_m7 73 rfl) rfl
theorem q1671 : (Jvm.Cond.methodLink "MendedThings" (362 : Nat) ({ cls := "MendedThings", name := "writes", desc := "(I)V" } : Jvm.MethodName)) ∈ lw_all := lw_g (lw_at lw_m7 74 rfl) rfl
theorem q1672 : (Jvm.Cond.privateMethod ({ cls := "MendedThings", name := "writes", desc := "(I)V" } : Jvm.MethodName)) ∈ lw_tbl := lw_at lw_m7 75 rfl
theorem q1673 : (Jvm.Cond.instanceMethod ({ cls := "MendedThings", name := "writes", desc := "(I)V" } : Jvm.MethodName)) ∈ lw_all := lw_g (lw_at lw_m7 76 rfl) rfl
theorem q1674 : (Jvm.Cond.code ({ cls := "MendedThings", name := "writes", desc := "(I)V" } : Jvm.MethodName) prog_1_method_59_code (2 : Nat) (Option.none : Option Jvm.ClassFile.FieldType)) ∈ lw_all := lw_g (lw_at lw_m7 77 rfl) rfl
theorem q1675 : (Jvm.Cond.methodLink "MendedThings" (365 : Nat) ({ cls := "MendedThings", name := "check", desc := "([BI)I" } : Jvm.MethodName)) ∈ lw_all := lw_g (lw_at lw_m7 78 rfl) rfl
theorem q1676 : (Jvm.Cond.static ({ cls := "MendedThings", name := "check", desc := "([BI)I" } : Jvm.MethodName)) ∈ lw_all := lw_g (lw_at lw_m7 79 rfl) rfl
theorem q1677 : (Jvm.Cond.code ({ cls := "MendedThings", name := "check", desc := "([BI)I" } : Jvm.MethodName) prog_1_method_60_code (4 : Nat) (Option.some Jvm.ClassFile.FieldType.int)) ∈ lw_all := lw_g (lw_at lw_m7 80 rfl) rfl
theorem q1679 : (Jvm.Cond.instanceMethod ({ cls := "MendedThings", name := "octet", desc := "(I)I" } : Jvm.MethodName)) ∈ lw_all := lw_g (lw_at lw_m7 82 rfl) rfl
theorem q1680 : (Jvm.Cond.selects "MendedThings" ({ cls := "MendedThings", name := "octet", desc := "(I)I" } : Jvm.MethodName) ({ cls := "MendedThings", name := "octet", desc := "(I)I" } : Jvm.MethodName)) ∈ lw_all := lw_g (lw_at lw_m7 83 rfl) rfl
theorem q1681 : (Jvm.Cond.code ({ cls := "MendedThings", name := "octet", desc := "(I)I" } : Jvm.MethodName) prog_1_method_62_code (2 : Nat) (Option.some Jvm.ClassFile.FieldType.int)) ∈ lw_all := lw_g (lw_at lw_m7 84 rfl) rfl
theorem q1683 : (Jvm.Cond.instanceMethod ({ cls := "MendedThings", name := "on", desc := "()Z" } : Jvm.MethodName)) ∈ lw_all := lw_g (lw_at lw_m7 86 rfl) rfl
theorem q1684 : (Jvm.Cond.selects "MendedThings" ({ cls := "MendedThings", name := "on", desc := "()Z" } : Jvm.MethodName) ({ cls := "MendedThings", name := "on", desc := "()Z" } : Jvm.MethodName)) ∈ lw_all := lw_g (lw_at lw_m7 87 rfl) rfl
theorem q1685 : (Jvm.Cond.code ({ cls := "MendedThings", name := "on", desc := "()Z" } : Jvm.MethodName) prog_1_method_64_code (5 : Nat) (Option.some Jvm.ClassFile.FieldType.boolean)) ∈ lw_all := lw_g (lw_at lw_m7 88 rfl) rfl
theorem q1686 : (Jvm.Cond.methodLink "MendedThings" (369 : Nat) ({ cls := "MendedThings", name := "thingOn", desc := "(II)Z" } : Jvm.MethodName)) ∈ lw_all := lw_g (lw_at lw_m7 89 rfl) rfl
theorem q1687 : (Jvm.Cond.privateMethod ({ cls := "MendedThings", name := "thingOn", desc := "(II)Z" } : Jvm.MethodName)) ∈ lw_tbl := lw_at lw_m7 90 rfl
theorem q1688 : (Jvm.Cond.instanceMethod ({ cls := "MendedThings", name := "thingOn", desc := "(II)Z" } : Jvm.MethodName)) ∈ lw_all := lw_g (lw_at lw_m7 91 rfl) rfl
theorem q1689 : (Jvm.Cond.code ({ cls := "MendedThings", name := "thingOn", desc := "(II)Z" } : Jvm.MethodName) prog_1_method_63_code (4 : Nat) (Option.some Jvm.ClassFile.FieldType.boolean)) ∈ lw_all := lw_g (lw_at lw_m7 92 rfl) rfl
theorem q1691 : (Jvm.Cond.instanceMethod ({ cls := "MendedThings", name := "status", desc := "(I)I" } : Jvm.MethodName)) ∈ lw_all := lw_g (lw_at lw_m7 94 rfl) rfl
theorem q1692 : (Jvm.Cond.selects "MendedThings" ({ cls := "MendedThings", name := "status", desc := "(I)I" } : Jvm.MethodName) ({ cls := "MendedThings", name := "status", desc := "(I)I" } : Jvm.MethodName)) ∈ lw_all := lw_g (lw_at lw_m7 95 rfl) rfl
theorem q1693 : (Jvm.Cond.code ({ cls := "MendedThings", name := "status", desc := "(I)I" } : Jvm.MethodName) prog_1_method_65_code (2 : Nat) (Option.some Jvm.ClassFile.FieldType.int)) ∈ lw_all := lw_g (lw_at lw_m7 96 rfl) rfl
theorem q2587 : (Jvm.Cond.castable "MendedThings" "java/lang/Object") ∈ lw_tbl := lw_at lw_m11 30 rfl
theorem q2623 : (Jvm.Cond.stringRef "MendedThings" (406 : Nat) "thing") ∈ lw_tbl := lw_at lw_m11 66 rfl
theorem q2624 : (Jvm.Cond.stringRef "MendedThings" (372 : Nat) "worth") ∈ lw_tbl := lw_at lw_m11 67 rfl
theorem q2625 : (Jvm.Cond.stringRef "MendedThings" (373 : Nat) "use") ∈ lw_tbl := lw_at lw_m11 68 rfl
theorem q2626 : (Jvm.Cond.stringRef "MendedThings" (374 : Nat) "frail") ∈ lw_tbl := lw_at lw_m11 69 rfl
theorem q2627 : (Jvm.Cond.stringRef "MendedThings" (408 : Nat) "mender") ∈ lw_tbl := lw_at lw_m11 70 rfl
theorem q2628 : (Jvm.Cond.stringRef "MendedThings" (379 : Nat) "skill") ∈ lw_tbl := lw_at lw_m11 71 rfl
theorem q2629 : (Jvm.Cond.stringRef "MendedThings" (410 : Nat) "hours") ∈ lw_tbl := lw_at lw_m11 72 rfl
theorem q2630 : (Jvm.Cond.stringRef "MendedThings" (411 : Nat) "trial") ∈ lw_tbl := lw_at lw_m11 73 rfl
theorem q2631 : (Jvm.Cond.stringRef "MendedThings" (387 : Nat) "is") ∈ lw_tbl := lw_at lw_m11 74 rfl
theorem q2632 : (Jvm.Cond.stringRef "MendedThings" (413 : Nat) "stands") ∈ lw_tbl := lw_at lw_m11 75 rfl
theorem q2633 : (Jvm.Cond.stringRef "MendedThings" (414 : Nat) "falls") ∈ lw_tbl := lw_at lw_m11 76 rfl
theorem q2634 : (Jvm.Cond.stringRef "MendedThings" (416 : Nat) "takes") ∈ lw_tbl := lw_at lw_m11 77 rfl
theorem q2635 : (Jvm.Cond.stringRef "MendedThings" (417 : Nat) "fine") ∈ lw_tbl := lw_at lw_m11 78 rfl
theorem q2636 : (Jvm.Cond.stringRef "MendedThings" (391 : Nat) "first") ∈ lw_tbl := lw_at lw_m11 79 rfl
theorem q2637 : (Jvm.Cond.stringRef "MendedThings" (418 : Nat) "cat") ∈ lw_tbl := lw_at lw_m11 80 rfl
theorem q2638 : (Jvm.Cond.stringRef "MendedThings" (375 : Nat) "breaks") ∈ lw_tbl := lw_at lw_m11 81 rfl
theorem q2639 : (Jvm.Cond.stringRef "MendedThings" (376 : Nat) "mends") ∈ lw_tbl := lw_at lw_m11 82 rfl
theorem q2640 : (Jvm.Cond.stringRef "MendedThings" (377 : Nat) "day") ∈ lw_tbl := lw_at lw_m11 83 rfl
theorem q2641 : (Jvm.Cond.stringRef "MendedThings" (378 : Nat) "glue") ∈ lw_tbl := lw_at lw_m11 84 rfl
theorem q2642 : (Jvm.Cond.stringRef "MendedThings" (380 : Nat) "number") ∈ lw_tbl := lw_at lw_m11 85 rfl
theorem q2643 : (Jvm.Cond.stringRef "MendedThings" (382 : Nat) "forged") ∈ lw_tbl := lw_at lw_m11 86 rfl
theorem q2644 : (Jvm.Cond.stringRef "MendedThings" (393 : Nat) "last") ∈ lw_tbl := lw_at lw_m11 87 rfl
theorem q2645 : (Jvm.Cond.stringRef "MendedThings" (419 : Nat) "or") ∈ lw_tbl := lw_at lw_m11 88 rfl
theorem q2646 : (Jvm.Cond.stringRef "MendedThings" (421 : Nat) "and") ∈ lw_tbl := lw_at lw_m11 89 rfl
theorem q2647 : (Jvm.Cond.stringRef "MendedThings" (423 : Nat) "not") ∈ lw_tbl := lw_at lw_m11 90 rfl
theorem q2648 : (Jvm.Cond.stringRef "MendedThings" (425 : Nat) "all") ∈ lw_tbl := lw_at lw_m11 91 rfl
theorem q2649 : (Jvm.Cond.stringRef "MendedThings" (426 : Nat) "min") ∈ lw_tbl := lw_at lw_m11 92 rfl
theorem q2650 : (Jvm.Cond.stringRef "MendedThings" (427 : Nat) "max") ∈ lw_tbl := lw_at lw_m11 93 rfl
theorem q2652 : (Jvm.Cond.stringRef "MendedThings" (395 : Nat) "often") ∈ lw_tbl := lw_at lw_m11 95 rfl
theorem q2653 : (Jvm.Cond.stringRef "MendedThings" (397 : Nat) "total") ∈ lw_tbl := lw_at lw_m11 96 rfl
theorem q2654 : (Jvm.Cond.stringRef "MendedThings" (399 : Nat) "most") ∈ lw_tbl := lw_at lw_m11 97 rfl
theorem q2655 : (Jvm.Cond.stringRef "MendedThings" (401 : Nat) "least") ∈ lw_tbl := lw_at lw_m11 98 rfl
theorem in_X0 : ∀ w ∈ wsX00, w ∈ lw_all := lw_in wsX00 [492, 494, 496, 498, 500, 502, 504, 506, 508, 510, 512, 514, 516, 518, 520, 522, 524, 526, 528, 530] (by decide +kernel) (by decide +kernel)
