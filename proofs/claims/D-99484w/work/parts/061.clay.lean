/-! THE COMPONENT: kinds of its classes, its static cells, constants (printed by gen/compbase.py). -/
def ks0 : Nat → Nat × Nat := fun k => match k with
  | 0 => (4, 0)
  | 1 => (3, 8)
  | 2 => (0, 0)
  | 3 => (0, 0)
  | 4 => (0, 0)
  | 5 => (3, 9)
  | 6 => (3, 11)
  | 7 => (3, 13)
  | 8 => (3, 15)
  | 9 => (3, 16)
  | 10 => (3, 74)
  | 11 => (3, 132)
  | 12 => (3, 133)
  | 13 => (0, 0)
  | 14 => (3, 134)
  | 15 => (0, 0)
  | 16 => (1, 0)
  | 17 => (0, 0)
  | 18 => (3, 1295)
  | 19 => (0, 0)
  | _ => (0, 0)
def kO0 : rgK := .inl (0, 20, ks0)
def ks0c : Nat → Nat × Nat := fun k => match k with
  | 0 => (4, 0)
  | 1 => (4, 0)
  | 2 => (0, 0)
  | 3 => (0, 0)
  | 4 => (0, 0)
  | 5 => (4, 0)
  | 6 => (4, 0)
  | 7 => (4, 0)
  | 8 => (4, 0)
  | 9 => (4, 0)
  | 10 => (4, 0)
  | 11 => (4, 0)
  | 12 => (4, 0)
  | 13 => (0, 0)
  | 14 => (4, 0)
  | 15 => (0, 0)
  | 16 => (1, 0)
  | 17 => (0, 0)
  | 18 => (4, 0)
  | 19 => (0, 0)
  | _ => (0, 0)
def kO0c : rgK := .inl (0, 20, ks0c)
def ks1 : Nat → Nat × Nat := fun k => match k with
  | 0 => (0, 0)
  | 1 => (0, 0)
  | 2 => (4, 0)
  | 3 => (4, 0)
  | 4 => (4, 0)
  | 5 => (4, 0)
  | 6 => (4, 0)
  | 7 => (4, 0)
  | 8 => (4, 0)
  | 9 => (4, 0)
  | _ => (0, 0)
def kO1 : rgK := .inl (1, 10, ks1)
def ks2 : Nat → Nat × Nat := fun k => match k with
  | 0 => (3, 10)
  | 1 => (0, 0)
  | 2 => (0, 0)
  | 3 => (0, 0)
  | 4 => (0, 0)
  | 5 => (0, 0)
  | 6 => (4, 0)
  | 7 => (3, 0)
  | _ => (0, 0)
def kO2 : rgK := .inl (2, 8, ks2)
def ks2c : Nat → Nat × Nat := fun k => match k with
  | 0 => (4, 0)
  | 1 => (0, 0)
  | 2 => (0, 0)
  | 3 => (0, 0)
  | 4 => (0, 0)
  | 5 => (0, 0)
  | 6 => (4, 0)
  | 7 => (4, 0)
  | _ => (0, 0)
def kO2c : rgK := .inl (2, 8, ks2c)
def ks3 : Nat → Nat × Nat := fun k => match k with
  | 0 => (4, 0)
  | 1 => (4, 0)
  | 2 => (4, 0)
  | 3 => (4, 0)
  | 4 => (4, 0)
  | 5 => (0, 0)
  | 6 => (0, 0)
  | 7 => (0, 0)
  | _ => (0, 0)
def kO3 : rgK := .inl (3, 8, ks3)
def ks4 : Nat → Nat × Nat := fun k => match k with
  | 0 => (2, 1)
  | _ => (0, 0)
def kO4 : rgK := .inl (4, 1, ks4)
def ks4c : Nat → Nat × Nat := fun k => match k with
  | 0 => (4, 0)
  | _ => (0, 0)
def kO4c : rgK := .inl (4, 1, ks4c)
def ks5 : Nat → Nat × Nat := fun k => match k with
  | 0 => (0, 0)
  | 1 => (0, 0)
  | 2 => (2, 1)
  | 3 => (2, 2)
  | 4 => (2, 3)
  | 5 => (2, 4)
  | 6 => (2, 5)
  | 7 => (2, 6)
  | 8 => (0, 0)
  | 9 => (0, 0)
  | 10 => (0, 0)
  | 11 => (2, 57)
  | 12 => (3, 0)
  | _ => (0, 0)
def kO5 : rgK := .inl (5, 13, ks5)
def ks5c : Nat → Nat × Nat := fun k => match k with
  | 0 => (0, 0)
  | 1 => (0, 0)
  | 2 => (4, 0)
  | 3 => (4, 0)
  | 4 => (4, 0)
  | 5 => (4, 0)
  | 6 => (4, 0)
  | 7 => (4, 0)
  | 8 => (0, 0)
  | 9 => (0, 0)
  | 10 => (0, 0)
  | 11 => (4, 0)
  | 12 => (4, 0)
  | _ => (0, 0)
def kO5c : rgK := .inl (5, 13, ks5c)
def ks7 : Nat → Nat × Nat := fun k => match k with
  | 0 => (4, 0)
  | 1 => (0, 0)
  | 2 => (0, 0)
  | 3 => (0, 0)
  | _ => (0, 0)
def kO7 : rgK := .inl (7, 4, ks7)
def ks8 : Nat → Nat × Nat := fun k => match k with
  | 0 => (4, 0)
  | 1 => (0, 0)
  | 2 => (0, 0)
  | _ => (0, 0)
def kO8 : rgK := .inl (8, 3, ks8)
def ks9 : Nat → Nat × Nat := fun k => match k with
  | 0 => (4, 0)
  | 1 => (4, 0)
  | _ => (0, 0)
def kO9 : rgK := .inl (9, 2, ks9)
def ks10 : Nat → Nat × Nat := fun k => match k with
  | 0 => (4, 0)
  | 1 => (0, 0)
  | _ => (0, 0)
def kO10 : rgK := .inl (10, 2, ks10)
def ks11 : Nat → Nat × Nat := fun k => match k with
  | 0 => (4, 0)
  | _ => (0, 0)
def kO11 : rgK := .inl (11, 1, ks11)
def ks12 : Nat → Nat × Nat := fun k => match k with
  | _ => (0, 0)
def kO12 : rgK := .inl (12, 0, ks12)
def ks13 : Nat → Nat × Nat := fun k => match k with
  | 0 => (4, 0)
  | 1 => (4, 0)
  | _ => (0, 0)
def kO13 : rgK := .inl (13, 2, ks13)
def ks14 : Nat → Nat × Nat := fun k => match k with
  | 0 => (0, 0)
  | 1 => (4, 0)
  | 2 => (4, 0)
  | _ => (0, 0)
def kO14 : rgK := .inl (14, 3, ks14)
def ks15 : Nat → Nat × Nat := fun k => match k with
  | 0 => (1, 0)
  | _ => (0, 0)
def kO15 : rgK := .inl (15, 1, ks15)
def ks16 : Nat → Nat × Nat := fun k => match k with
  | 0 => (0, 0)
  | _ => (0, 0)
def kO16 : rgK := .inl (16, 1, ks16)
def ks17 : Nat → Nat × Nat := fun k => match k with
  | 0 => (0, 0)
  | 1 => (4, 0)
  | 2 => (4, 0)
  | _ => (0, 0)
def kO17 : rgK := .inl (17, 3, ks17)
def ks18 : Nat → Nat × Nat := fun k => match k with
  | 0 => (4, 0)
  | 1 => (4, 0)
  | 2 => (0, 0)
  | _ => (0, 0)
def kO18 : rgK := .inl (18, 3, ks18)
def ks19 : Nat → Nat × Nat := fun k => match k with
  | 0 => (0, 0)
  | 1 => (4, 0)
  | 2 => (4, 0)
  | 3 => (1, 0)
  | 4 => (0, 0)
  | _ => (0, 0)
def kO19 : rgK := .inl (19, 5, ks19)
def ks20 : Nat → Nat × Nat := fun k => match k with
  | 0 => (0, 0)
  | 1 => (4, 0)
  | 2 => (0, 0)
  | _ => (0, 0)
def kO20 : rgK := .inl (20, 3, ks20)
def ks21 : Nat → Nat × Nat := fun k => match k with
  | 0 => (4, 0)
  | 1 => (0, 0)
  | 2 => (0, 0)
  | 3 => (0, 0)
  | _ => (0, 0)
def kO21 : rgK := .inl (21, 4, ks21)
def ks22 : Nat → Nat × Nat := fun k => match k with
  | 0 => (4, 0)
  | 1 => (0, 0)
  | 2 => (0, 0)
  | 3 => (0, 0)
  | _ => (0, 0)
def kO22 : rgK := .inl (22, 4, ks22)
theorem in_X14 : ∀ w ∈ u_ws RX14 TX14 0, w ∈ lw_all := fun w h => by cases h
def tyX14 : Nat → FieldType := fun _ => .int
theorem tyX14_ok : ∀ k, k < 0 → parseFieldDescriptor (TX14 k).2.2.1 = some (tyX14 k) := fun k h => absurd h (Nat.not_lt_zero k)
/-- a State's own cells, by their offsets -/
def stSub (d : Nat) : Option rgK := match d with
  | 0 => some (kO5)
  | 1 => some (.inr (0, 8))
  | 2 => some (.inr (0, 8))
  | 3 => some (.inr (0, 8))
  | 4 => some (.inr (0, 8))
  | 5 => some (.inr (2, 8))
  | 6 => some (.inr (7, 50))
  | d => if d = 57 then some (.inr (0, 4)) else if d < 57 then some (.inr (0, 3)) else none
def sLay (i : Nat) : Option rgK := match i with
  | 0 => some (kO0)
  | 1 => some (kO1)
  | 2 => some (kO20)
  | 3 => some (.inr (5, 4))
  | 4 => some (kO20)
  | 5 => some (.inr (5, 2))
  | 6 => some (kO20)
  | 7 => some (.inr (5, 2))
  | 8 => some (.inr (1, 1600))
  | 9 => some (kO2)
  | 10 => some (kO3)
  | 11 => some (kO4)
  | 12 => some (.inr (4, 10))
  | 13 => some (kO4)
  | 14 => some (.inr (4, 10))
  | 15 => some (.inr (0, 6))
  | i => if i < 16 then none else if i < 132 then stSub ((i - 16) % 58) else if i < 134 then some (.inr (0, 6)) else if i = 134 then some (.inr (6, 20)) else if i < 1295 then stSub ((i - 135) % 58) else if i = 1295 then some (.inr (1, 43)) else none
theorem sl_0 : sLay 0 = some (kO0) := rfl
theorem sl_1 : sLay 1 = some (kO1) := rfl
theorem sl_2 : sLay 2 = some (kO20) := rfl
theorem sl_3 : sLay 3 = some (.inr (5, 4)) := rfl
theorem sl_4 : sLay 4 = some (kO20) := rfl
theorem sl_5 : sLay 5 = some (.inr (5, 2)) := rfl
theorem sl_6 : sLay 6 = some (kO20) := rfl
theorem sl_7 : sLay 7 = some (.inr (5, 2)) := rfl
theorem sl_8 : sLay 8 = some (.inr (1, 1600)) := rfl
theorem sl_9 : sLay 9 = some (kO2) := rfl
theorem sl_10 : sLay 10 = some (kO3) := rfl
theorem sl_11 : sLay 11 = some (kO4) := rfl
theorem sl_12 : sLay 12 = some (.inr (4, 10)) := rfl
theorem sl_13 : sLay 13 = some (kO4) := rfl
theorem sl_14 : sLay 14 = some (.inr (4, 10)) := rfl
theorem sl_15 : sLay 15 = some (.inr (0, 6)) := rfl
theorem sl_132 : sLay 132 = some (.inr (0, 6)) := rfl
theorem sl_133 : sLay 133 = some (.inr (0, 6)) := rfl
theorem sl_134 : sLay 134 = some (.inr (6, 20)) := rfl
theorem sl_1295 : sLay 1295 = some (.inr (1, 43)) := rfl
def stOK (i : Nat) : Prop := i = 16 ∨ i = 74 ∨ ∃ k, k < 20 ∧ i = 135 + 58 * k
theorem st_lt {i : Nat} (h : stOK i) {d : Nat} (hd : d < 58) : i + d < 1296 := by
  rcases h with rfl | rfl | ⟨k, hk, rfl⟩ <;> omega
theorem st_lay {i : Nat} (h : stOK i) {d : Nat} (hd : d < 58) : sLay (i + d) = stSub d := by
  rcases h with rfl | rfl | ⟨k, hk, rfl⟩
  · unfold sLay
    split <;> first | omega | skip
    rw [if_neg (by omega), if_pos (by omega), show (16 + d - 16) % 58 = d by omega]
  · unfold sLay
    split <;> first | omega | skip
    rw [if_neg (by omega), if_pos (by omega), show (74 + d - 16) % 58 = d by omega]
  · unfold sLay
    split <;> first | omega | skip
    rw [if_neg (by omega), if_neg (by omega), if_neg (by omega), if_neg (by omega), if_pos (by omega), show (135 + 58 * k + d - 135) % 58 = d by omega]
theorem sls_0 {i : Nat} (h : stOK i) : sLay (i + 0) = some (kO5) := st_lay h (by decide)
theorem sls_1 {i : Nat} (h : stOK i) : sLay (i + 1) = some (.inr (0, 8)) := st_lay h (by decide)
theorem sls_2 {i : Nat} (h : stOK i) : sLay (i + 2) = some (.inr (0, 8)) := st_lay h (by decide)
theorem sls_3 {i : Nat} (h : stOK i) : sLay (i + 3) = some (.inr (0, 8)) := st_lay h (by decide)
theorem sls_4 {i : Nat} (h : stOK i) : sLay (i + 4) = some (.inr (0, 8)) := st_lay h (by decide)
theorem sls_5 {i : Nat} (h : stOK i) : sLay (i + 5) = some (.inr (2, 8)) := st_lay h (by decide)
theorem sls_6 {i : Nat} (h : stOK i) : sLay (i + 6) = some (.inr (7, 50)) := st_lay h (by decide)
theorem sls_57 {i : Nat} (h : stOK i) : sLay (i + 57) = some (.inr (0, 4)) := st_lay h (by decide)
def kTxt : List (List Nat) := [[119, 111, 114, 116, 104], [117, 115, 101], [102, 114, 97, 105, 108], [98, 114, 101, 97, 107, 115], [109, 101, 110, 100, 115], [100, 97, 121], [103, 108, 117, 101], [115, 107, 105, 108, 108], [110, 117, 109, 98, 101, 114], [102, 111, 114, 103, 101, 100], [105, 115], [102, 105, 114, 115, 116], [108, 97, 115, 116], [111, 102, 116, 101, 110], [116, 111, 116, 97, 108], [109, 111, 115, 116], [108, 101, 97, 115, 116], [116, 104, 105, 110, 103], [109, 101, 110, 100, 101, 114], [104, 111, 117, 114, 115], [116, 114, 105, 97, 108], [115, 116, 97, 110, 100, 115], [102, 97, 108, 108, 115], [116, 97, 107, 101, 115], [102, 105, 110, 101], [99, 97, 116], [111, 114], [97, 110, 100], [110, 111, 116], [97, 108, 108], [109, 105, 110], [109, 97, 120]]
def kHash : List Int32 := [113319054, 116103, 97691896, -1380923564, 103781605, 99228, 3175989, 109496913, -1034364087, -1268784675, 3370, 97440432, 3314326, 105664230, 110549828, 3357571, 102846057, 110331118, -1077737861, 99469071, 110628630, -892487843, 97196120, 110124236, 3143098, 98262, 3555, 96727, 109267, 96673, 108114, 107876]
def kArr : List (List Nat) := [[17, 0, 1, 2, 18, 7, 19, 20, 10, 21, 22, 23, 24, 11, 25, 3, 4, 5, 6, 8, 9, 12, 26, 27, 28, 29, 30, 31], [0, 1, 2, 3, 4, 5, 6, 7, 8, 9], [10], [11, 12, 13, 14, 15, 16]]
/-- constants: CB + a: the a-th static array of texts; CB + 16 + 2 k: the k-th text; CB + 17 + 2 k: its bytes -/
def kLay (i : Nat) : Option rgK := if i < CB then none else if i < CB + 4 then some (.inr (8, (kArr.getD (i - CB) []).length)) else if i < CB + 16 then none else if CB + 16 + 2 * 32 ≤ i then none else if (i - CB) % 2 = 0 then some kO21 else some (.inr (1, (kTxt.getD ((i - CB - 17) / 2) []).length))
def kI (i j : Nat) : Int32 := if (i - CB) % 2 = 0 then (if j = 2 then kHash.getD ((i - CB - 16) / 2) 0 else 0) else Int32.ofNat ((kTxt.getD ((i - CB - 17) / 2) []).getD j 0)
def kR (i j : Nat) : Nat := if i < CB + 4 then CB + 16 + 2 * ((kArr.getD (i - CB) []).getD j 0) + 1 else if (i - CB) % 2 = 0 then (if j = 0 then i + 2 else 0) else 0
/-- where texts stand as constants: class, entry, text, id -/
def strTab : List (String × Nat × String × Nat) := [("MendedThings$Reader", 139, "thing", 1048626), ("MendedThings$Reader", 141, "mender", 1048628), ("MendedThings$Reader", 143, "trial", 1048632), ("MendedThings$Reader", 156, "worth", 1048592), ("MendedThings$Reader", 161, "use", 1048594), ("MendedThings$Reader", 165, "frail", 1048596), ("MendedThings$Reader", 176, "skill", 1048606), ("MendedThings$Reader", 180, "hours", 1048630), ("MendedThings$Reader", 188, "is", 1048612), ("MendedThings$Reader", 312, "not", 1048648), ("MendedThings$Reader", 319, "all", 1048650), ("MendedThings$Reader", 287, "min", 1048652), ("MendedThings$Reader", 289, "max", 1048654), ("MendedThings$Reader", 310, "and", 1048646), ("MendedThings$Reader", 302, "or", 1048644), ("MendedThings$Reader", 205, "stands", 1048634), ("MendedThings$Reader", 207, "falls", 1048636), ("MendedThings$Reader", 209, "takes", 1048638), ("MendedThings$Reader", 211, "fine", 1048640), ("MendedThings$Reader", 213, "first", 1048614), ("MendedThings$Reader", 215, "cat", 1048642)]
def zTab : List (String × String × String × Option Nat) := [("java/lang/String", "COMPACT_STRINGS", "Z", none), ("MendedThings", "OWN", "[Ljava/lang/String;", some 1048576), ("MendedThings", "ASKED", "[Ljava/lang/String;", some 1048577), ("MendedThings", "LOOKED", "[Ljava/lang/String;", some 1048578), ("MendedThings", "TOLD_OF", "[Ljava/lang/String;", some 1048579)]
def zqTab : List (String × String × String) := [("jdk/internal/util/Preconditions", "SIOOBE_FORMATTER", "Ljava/util/function/BiFunction;")]
def zuTab : List (String × String × String × Nat) := [("java/lang/Throwable", "UNASSIGNED_STACK", "[Ljava/lang/StackTraceElement;", 1049001), ("java/lang/Throwable", "SUPPRESSED_SENTINEL", "Ljava/util/List;", 1049002)]
def zVal (ad : Nat → Nat) (v : Option Nat) : Value := match v with
  | none => .int 1
  | some i => .ref (ad i)
abbrev fSizeX : MethodName := ⟨"java/util/List", "size", "()I"⟩
abbrev fGetX : MethodName := ⟨"java/util/List", "get", "(I)Ljava/lang/Object;"⟩
abbrev fAddX : MethodName := ⟨"java/util/List", "add", "(Ljava/lang/Object;)Z"⟩
/-- the tables' facts that a method of the component's takes along -/
def cT (D : va_G) (dA : Nat → ClassId) (ad : Nat → Nat) (Hs : Heap) (U : State) : Prop := va_K D vwCl (rgTy dA) U ∧ (∀ w ∈ lw_nw, va_Nw w U) ∧ (va_AO "java/lang/Object" U ∧ va_AO "MendedThings$State" U) ∧ (va_Fw RJ2 fSizeX yJ2_size U ∧ va_Fw RJ2 fGetX yJ2_get U ∧ va_Fw RJ2 fAddX yJ2_add U) ∧ (∀ e ∈ strTab, vk_R e.1 e.2.1 e.2.2.1 (ad e.2.2.2) U) ∧ (∀ e ∈ zTab, va_Z e.1 e.2.1 e.2.2.1 (zVal ad e.2.2.2) (fun q => Hs.size ≤ q) U Hs) ∧ (((∀ e ∈ zqTab, va_Zq e.1 e.2.1 e.2.2 (fun q => Hs.size ≤ q) U Hs) ∧ (∀ e ∈ zuTab, va_Z e.1 e.2.1 e.2.2.1 .null (fun q => Hs.size ≤ q) U Hs ∨ va_Z e.1 e.2.1 e.2.2.1 (.ref (ad e.2.2.2)) (fun q => Hs.size ≤ q) U Hs)) ∧ (va_Mi "[Ljava/lang/Object;" (ad 1049000) U ∧ va_Dc U ∧ va_AI U) ∧ (Cond.selects RJ15 yJ14_ensureCapacityInternal yJ14_ensureCapacityInternal).before #[] U = true ∧ (Cond.selects RJ15 yJ14_newCapacity yJ14_newCapacity).before #[] U = true) ∧ (∃ (kA kC : Class), U.vm.classes[dA 7]? = some kA ∧ kA.kind = .array (dA 0) (.array .int) ∧ U.vm.classes[dA 0]? = some kC ∧ U.vm.assignable (dA 0) (dA 0) = true)
theorem cT.warm {D : va_G} {dA : Nat → ClassId} {ad : Nat → Nat} {Hs : Heap} {s U : State} (hW : s.WarmedH U.vm) (h : cT D dA ad Hs s) : cT D dA ad Hs U := by
  obtain ⟨h1, h2, h3, h4, h5, h6, ⟨⟨hz, hu⟩, ⟨hmi, hdc, hai⟩, hs1, hs2⟩, kA, kC, h7, h8, h9, h10⟩ := h
  refine ⟨va_K.moved hW.alike h1, fun w hw => nw_warm (List.mem_filter.mp hw).2 hW (h2 w hw), ⟨va_AO.moved hW.alike h3.1, va_AO.moved hW.alike h3.2⟩, ⟨va_Fw.moved (by decide) hW.alike h4.1, va_Fw.moved (by decide) hW.alike h4.2.1, va_Fw.moved (by decide) hW.alike h4.2.2⟩, fun e he => vk_R.warm hW (h5 e he), fun e he => va_Z.moved hW.alike (h6 e he), ⟨⟨fun e he => va_Zq.moved hW.alike (hz e he), fun e he => (hu e he).imp (va_Z.moved hW.alike) (va_Z.moved hW.alike)⟩, ⟨va_Mi.moved hW.alike hmi, va_Dc.moved hW.alike hdc, va_AI.moved hW.alike hai⟩, word_at hW (Or.inl rfl) hs1, word_at hW (Or.inl rfl) hs2⟩, ?_⟩
  obtain ⟨k', hk', he⟩ := hW.alike.2.2 _ _ h7
  obtain ⟨k2, hk2, he2⟩ := hW.alike.2.2 _ _ h9
  exact ⟨k', k2, hk', by rw [he]; exact h8, hk2, by rw [hW.alike.assignable]; exact h10⟩
theorem cT.calling {D : va_G} {dA : Nat → ClassId} {ad : Nat → Nat} {Hs : Heap} {U : State} {g : JFrame} {mk : MethodId} {a : Array Value} (h : cT D dA ad Hs U) : cT D dA ad Hs (U.calling g mk a) := by
  obtain ⟨h1, h2, h3, h4, h5, h6, ⟨⟨hz, hu⟩, ⟨hmi, hdc, hai⟩, hs1, hs2⟩, h7⟩ := h
  have hv : (U.calling g mk a).vm = U.vm := rfl
  exact ⟨va_K.moved (Vm.Alike.refl U.vm) h1, fun w hw => va_Nw.same (nw_tab (List.mem_filter.mp hw).2) hv.symm (h2 w hw), ⟨va_AO.moved (Vm.Alike.refl U.vm) h3.1, va_AO.moved (Vm.Alike.refl U.vm) h3.2⟩, ⟨va_Fw.moved (by decide) (Vm.Alike.refl U.vm) h4.1, va_Fw.moved (by decide) (Vm.Alike.refl U.vm) h4.2.1, va_Fw.moved (by decide) (Vm.Alike.refl U.vm) h4.2.2⟩, fun e he => vk_R.same hv (h5 e he), fun e he => va_Z.moved (Vm.Alike.refl U.vm) (h6 e he), ⟨⟨fun e he => va_Zq.moved (Vm.Alike.refl U.vm) (hz e he), fun e he => (hu e he).imp (va_Z.moved (Vm.Alike.refl U.vm)) (va_Z.moved (Vm.Alike.refl U.vm))⟩, ⟨va_Mi.moved (Vm.Alike.refl U.vm) hmi, va_Dc.moved (Vm.Alike.refl U.vm) hdc, va_AI.moved (Vm.Alike.refl U.vm) hai⟩, va_Nw.same (w := .selects RJ15 yJ14_ensureCapacityInternal yJ14_ensureCapacityInternal) rfl hv.symm hs1, va_Nw.same (w := .selects RJ15 yJ14_newCapacity yJ14_newCapacity) rfl hv.symm hs2⟩, h7⟩
/-- what the heap holds -/
def cV (D : va_G) (dA : Nat → ClassId) (ad : Nat → Nat) (n0 : Nat) (Hs : Heap) (σ : CS) (H : Heap) : Prop :=
  xP D dA σ.2.1 ad σ.2.2 H ∧ H.size = ad σ.1 ∧ n0 ≤ σ.1 ∧ σ.1 ≤ CB ∧ (∀ i, i < n0 → σ.2.1 i = sLay i) ∧ (∀ i, CB ≤ i → σ.2.1 i = kLay i ∧ σ.2.2.1 i = kI i ∧ σ.2.2.2.2 i = kR i) ∧ (∀ i, i < CB → σ.1 ≤ i → σ.2.1 i = none) ∧ (∀ q, q < Hs.size → H[q]? = Hs[q]?)
def cU (D : va_G) (dA : Nat → ClassId) (ad : Nat → Nat) (n0 : Nat) (Hs : Heap) (σ : CS) (U : State) : Prop := cV D dA ad n0 Hs σ U.heap ∧ cT D dA ad Hs U
def xC (p : Program) (m : MethodId) (c : Code) (cc : ByteArray) (nL : Nat) (s : State) (args : Array Value) (own : String) (D : va_G) (dA : Nat → ClassId) (ad : Nat → Nat) (n0 : Nat) (Hs : Heap) : Prop := CallFix p m c cc nL s args lw_all own ∧ cT D dA ad Hs s ∧ cAd ad n0 Hs.size
def xI (D : va_G) (dA : Nat → ClassId) (ad : Nat → Nat) (n0 : Nat) (Hs H0 : Heap) (σ : CS) (H : Heap) (locs : List Loc) : Prop := cV D dA ad n0 Hs σ H ∧ va_S (cA ad) H0 H locs
theorem va_rf_cat (r : Option Nat) : (va_rf r).category = 1 := by cases r <;> rfl
def gN (σ : CS) (i : Nat) : Nat := match gK σ i with
  | some (.inr a) => a.2
  | _ => 0
