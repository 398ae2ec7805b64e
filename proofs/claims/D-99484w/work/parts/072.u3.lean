def U_X1_init (mc ms : Nat) (σ : CS) (ob : Nat) (K : Unit → CS → Prop) : Prop := (1 ≤ mc ∧ 3 ≤ ms) ∧ (σ.1 < CB ∧ (∀ σ1 : CS, σ1 = nC σ kO20 → (∃ mc4 ms5 : Nat, (1 + mc4 ≤ mc ∧ 3 + ms5 ≤ ms) ∧ (U_J2_init mc4 ms5 σ1 (σ.1) 4 (fun _ σ2 => (ob < CB ∧ (gK σ2 ob = some kO1 ∧ (∀ σ6 : CS, σ6 = wR σ2 ob 2 ((σ.1) + 1) → ((1 + mc4 + 1 ≤ mc ∧ 3 + ms5 + 3 ≤ ms) ∧ (σ6.1 < CB ∧ (∀ σ7 : CS, σ7 = nC σ6 kO20 → (∃ mc10 ms11 : Nat, (1 + mc4 + 1 + mc10 ≤ mc ∧ 3 + ms5 + 3 + ms11 ≤ ms) ∧ (U_J2_init mc10 ms11 σ7 (σ6.1) 2 (fun _ σ8 => (ob < CB ∧ (gK σ8 ob = some kO1 ∧ (∀ σ12 : CS, σ12 = wR σ8 ob 3 ((σ6.1) + 1) → ((1 + mc4 + 1 + mc10 + 1 ≤ mc ∧ 3 + ms5 + 3 + ms11 + 3 ≤ ms) ∧ (σ12.1 < CB ∧ (∀ σ13 : CS, σ13 = nC σ12 kO20 → (∃ mc16 ms17 : Nat, (1 + mc4 + 1 + mc10 + 1 + mc16 ≤ mc ∧ 3 + ms5 + 3 + ms11 + 3 + ms17 ≤ ms) ∧ (U_J2_init mc16 ms17 σ13 (σ12.1) 2 (fun _ σ14 => (ob < CB ∧ (gK σ14 ob = some kO1 ∧ (∀ σ18 : CS, σ18 = wR σ14 ob 4 ((σ12.1) + 1) → (K () σ18)))))))))))))))))))))))))))
def U_X7_init (σ : CS) (ob : Nat) (x1 : Nat) (K : Unit → CS → Prop) : Prop := ob < CB ∧ (isNm σ ob ∧ (∀ σ1 : CS, σ1 = wR σ ob 0 (x1 + 1) → (K () σ1)))
def U_X10_init (σ : CS) (ob : Nat) (x1 : Nat) (x2 : Nat) (K : Unit → CS → Prop) : Prop := U_X7_init σ ob x1 (fun _ σ1 => (ob < CB ∧ (gK σ1 ob = some kO9 ∧ (∀ σ3 : CS, σ3 = wR σ1 ob 1 (x2 + 1) → (K () σ3)))))
def U_X11_init (σ : CS) (ob : Nat) (K : Unit → CS → Prop) : Prop := K () σ
def U_X12_init (mc ms : Nat) (σ : CS) (ob : Nat) (x1 : Int32) (K : Unit → CS → Prop) : Prop := U_X11_init σ ob (fun _ σ1 => ((1 ≤ mc ∧ 3 ≤ ms) ∧ (σ1.1 < CB ∧ (∀ σ3 : CS, σ3 = nC σ1 kO20 → (∃ mc6 ms7 : Nat, (1 + mc6 ≤ mc ∧ 3 + ms7 ≤ ms) ∧ (U_J2_init mc6 ms7 σ3 (σ1.1) 2 (fun _ σ4 => (ob < CB ∧ (gK σ4 ob = some kO10 ∧ (∀ σ8 : CS, σ8 = wR σ4 ob 0 ((σ1.1) + 1) → (ob < CB ∧ (gK σ8 ob = some kO10 ∧ ((narrow .boolean (.int x1) = .int x1 ∧ fits .boolean (.int x1) = true) ∧ (∀ σ9 : CS, σ9 = wI σ8 ob 1 x1 → (K () σ9)))))))))))))))
def U_X13_init (σ : CS) (ob : Nat) (x1 : Nat) (K : Unit → CS → Prop) : Prop := U_X11_init σ ob (fun _ σ1 => (ob < CB ∧ (gK σ1 ob = some kO11 ∧ (∀ σ3 : CS, σ3 = wR σ1 ob 0 (x1 + 1) → (K () σ3)))))
def U_X14_init (σ : CS) (ob : Nat) (K : Unit → CS → Prop) : Prop := U_X11_init σ ob (fun _ σ1 => (K () σ1))
def U_X15_init (σ : CS) (ob : Nat) (K : Unit → CS → Prop) : Prop := K () σ
def U_X16_init (mc ms : Nat) (σ : CS) (ob : Nat) (K : Unit → CS → Prop) : Prop := U_X15_init σ ob (fun _ σ1 => ((1 ≤ mc ∧ 3 ≤ ms) ∧ (σ1.1 < CB ∧ (∀ σ3 : CS, σ3 = nC σ1 kO20 → (∃ mc6 ms7 : Nat, (1 + mc6 ≤ mc ∧ 3 + ms7 ≤ ms) ∧ (U_J2_init mc6 ms7 σ3 (σ1.1) 2 (fun _ σ4 => (ob < CB ∧ (gK σ4 ob = some kO13 ∧ (∀ σ8 : CS, σ8 = wR σ4 ob 0 ((σ1.1) + 1) → ((1 + mc6 + 1 ≤ mc ∧ 3 + ms7 + 4 ≤ ms) ∧ (σ8.1 < CB ∧ (∀ σ9 : CS, σ9 = nC σ8 kO22 → (∃ mc12 ms13 : Nat, (1 + mc6 + 1 + mc12 ≤ mc ∧ 3 + ms7 + 4 + ms13 ≤ ms) ∧ (U_J15_init mc12 ms13 σ9 (σ8.1) (fun _ σ10 => (ob < CB ∧ (gK σ10 ob = some kO13 ∧ (∀ σ14 : CS, σ14 = wR σ10 ob 1 ((σ8.1) + 1) → (K () σ14))))))))))))))))))))
def U_X17_init (σ : CS) (ob : Nat) (x1 : Int32) (x2 : Nat) (x3 : Nat) (K : Unit → CS → Prop) : Prop := U_X15_init σ ob (fun _ σ1 => (ob < CB ∧ (gK σ1 ob = some kO14 ∧ ((narrow .boolean (.int x1) = .int x1 ∧ fits .boolean (.int x1) = true) ∧ (∀ σ3 : CS, σ3 = wI σ1 ob 0 x1 → (ob < CB ∧ (gK σ3 ob = some kO14 ∧ (∀ σ4 : CS, σ4 = wR σ3 ob 1 (x2 + 1) → (ob < CB ∧ (gK σ4 ob = some kO14 ∧ (∀ σ5 : CS, σ5 = wR σ4 ob 2 (x3 + 1) → (K () σ5))))))))))))
def U_X18_init (σ : CS) (ob : Nat) (x1 : Int64) (K : Unit → CS → Prop) : Prop := U_X15_init σ ob (fun _ σ1 => (ob < CB ∧ (gK σ1 ob = some kO15 ∧ (∀ σ3 : CS, σ3 = wL σ1 ob 0 x1 → (K () σ3)))))
def U_X19_init (σ : CS) (ob : Nat) (x1 : Int32) (K : Unit → CS → Prop) : Prop := U_X15_init σ ob (fun _ σ1 => (ob < CB ∧ (gK σ1 ob = some kO16 ∧ (∀ σ3 : CS, σ3 = wI σ1 ob 0 x1 → (K () σ3)))))
def U_X20_init (σ : CS) (ob : Nat) (x1 : Nat) (x2 : Int32) (x3 : Nat) (K : Unit → CS → Prop) : Prop := ob < CB ∧ (gK σ ob = some kO17 ∧ (∀ σ1 : CS, σ1 = wR σ ob 2 (x1 + 1) → (U_X15_init σ1 ob (fun _ σ2 => (ob < CB ∧ (gK σ2 ob = some kO17 ∧ (∀ σ4 : CS, σ4 = wI σ2 ob 0 x2 → (ob < CB ∧ (gK σ4 ob = some kO17 ∧ (∀ σ5 : CS, σ5 = wR σ4 ob 1 (x3 + 1) → (K () σ5)))))))))))
def U_X21_init (σ : CS) (ob : Nat) (x1 : Nat) (x2 : Int32) (x3 : Nat) (K : Unit → CS → Prop) : Prop := U_X11_init σ ob (fun _ σ1 => (ob < CB ∧ (gK σ1 ob = some kO18 ∧ (∀ σ3 : CS, σ3 = wR σ1 ob 0 (x1 + 1) → (ob < CB ∧ (gK σ3 ob = some kO18 ∧ (∀ σ4 : CS, σ4 = wI σ3 ob 2 x2 → (ob < CB ∧ (gK σ4 ob = some kO18 ∧ (∀ σ5 : CS, σ5 = wR σ4 ob 1 (x3 + 1) → (K () σ5)))))))))))
def U_X22_init (σ : CS) (ob : Nat) (x1 : Int32) (x2 : Nat) (x3 : Nat) (K : Unit → CS → Prop) : Prop := ob < CB ∧ (gK σ ob = some kO19 ∧ (∀ σ1 : CS, σ1 = wL σ ob 3 (-1) → (ob < CB ∧ (gK σ1 ob = some kO19 ∧ (∀ σ2 : CS, σ2 = wI σ1 ob 0 x1 → (ob < CB ∧ (gK σ2 ob = some kO19 ∧ (∀ σ3 : CS, σ3 = wR σ2 ob 1 x2 → (ob < CB ∧ (gK σ3 ob = some kO19 ∧ (∀ σ4 : CS, σ4 = wR σ3 ob 2 x3 → (K () σ4))))))))))))
def U_X8_init (σ : CS) (ob : Nat) (x1 : Nat) (x2 : Int32) (x3 : Int32) (x4 : Int32) (K : Unit → CS → Prop) : Prop := U_X7_init σ ob x1 (fun _ σ1 => (ob < CB ∧ (gK σ1 ob = some kO7 ∧ (∀ σ3 : CS, σ3 = wI σ1 ob 1 x2 → (ob < CB ∧ (gK σ3 ob = some kO7 ∧ (∀ σ4 : CS, σ4 = wI σ3 ob 2 x3 → (ob < CB ∧ (gK σ4 ob = some kO7 ∧ (∀ σ5 : CS, σ5 = wI σ4 ob 3 x4 → (K () σ5)))))))))))
def U_X9_init (σ : CS) (ob : Nat) (x1 : Nat) (x2 : Int32) (x3 : Int32) (K : Unit → CS → Prop) : Prop := U_X7_init σ ob x1 (fun _ σ1 => (ob < CB ∧ (gK σ1 ob = some kO8 ∧ (∀ σ3 : CS, σ3 = wI σ1 ob 1 x2 → (ob < CB ∧ (gK σ3 ob = some kO8 ∧ (∀ σ4 : CS, σ4 = wI σ3 ob 2 x3 → (K () σ4))))))))
def U_X16_add (mc ms : Nat) (σ : CS) (ob : Nat) (x1 : Int32) (x2 : Nat) (K : Unit → CS → Prop) : Prop := gK σ ob = some kO13 ∧ (∃ q1, (gR σ ob 1) = q1 + 1 ∧ (gK σ q1 = some kO22 ∧ (∃ mc5 ms6 : Nat, (0 + mc5 ≤ mc ∧ 0 + ms6 ≤ ms) ∧ (U_J15_append mc5 ms6 σ q1 x1 (fun r4 σ3 => (gK σ3 ob = some kO13 ∧ (∃ q7, (gR σ3 ob 0) = q7 + 1 ∧ (gK σ3 q7 = some kO20 ∧ (∃ mc11 ms12 : Nat, (0 + mc5 + mc11 ≤ mc ∧ 0 + ms6 + ms12 ≤ ms) ∧ (U_J2_add mc11 ms12 σ3 q7 x2 (fun r10 σ9 => (K () σ9))))))))))))
def U_X16_two (σ : CS) (x0 : Int32) (x1 : Int64) (x3 : Int64) (K : Int64 → CS → Prop) : Prop := ((x0 = 42 → (K (x1 * x3) σ)) ∧ (¬ x0 = 42 → (((x0 = 43 → (K (x1 + x3) σ)) ∧ (¬ x0 = 43 → (((x0 = 44 → (((¬ x3 = 0 → (U_J12_floorDiv σ x1 x3 (fun r2 σ1 => (K r2 σ1)))) ∧ (x3 = 0 → (K 0 σ))))) ∧ (¬ x0 = 44 → (((x0 = 45 → (K (x1 - x3) σ)) ∧ (¬ x0 = 45 → (((¬ x3 = 0 → (U_J12_floorDiv σ x1 x3 (fun r4 σ3 => (K r4 σ3)))) ∧ (x3 = 0 → (K 0 σ)))))))))))))))
def U_X0_held (σ : CS) (x0 : Int64) (K : Int64 → CS → Prop) : Prop := U_J12_min_2 σ 1000000 x0 (fun r2 σ1 => (U_J12_max_2 σ1 (-1000000) r2 (fun r4 σ3 => (K r4 σ3))))
def U_X7_find_2 (K : Int32 → CS → Prop) (x0 : Nat) (x1 : Nat) : Nat → Int32 → CS → Prop
  | 0 => fun _ _ => False
  | n + 1 => fun x2 σ => gK σ x0 = some kO20 ∧ (U_J2_size σ x0 (fun r2 σ1 => (((r2 ≤ x2 → (K (-1) σ1)) ∧ (¬ r2 ≤ x2 → (gK σ1 x0 = some kO20 ∧ (U_J2_get σ1 x0 x2 (fun r4 σ3 => (∃ q5, r4 = q5 + 1 ∧ (isC "MendedThings$Named" σ3 q5 ∧ (isNm σ3 q5 ∧ (∃ q6, (gR σ3 q5 0) = q6 + 1 ∧ (gK σ3 q6 = some kO21 ∧ (U_J6_equals σ3 q6 x1 (fun r9 σ8 => (((r9 = 0 → (U_X7_find_2 K x0 x1 n (x2 + 1) σ8)) ∧ (¬ r9 = 0 → (K x2 σ8)))))))))))))))))))
def U_X7_find (σ : CS) (x0 : Nat) (x1 : Nat) (K : Int32 → CS → Prop) : Prop := ∃ n2, U_X7_find_2 K x0 x1 n2 0 σ
def U_X1_isNamed (σ : CS) (ob : Nat) (x1 : Nat) (K : Int32 → CS → Prop) : Prop := gK σ ob = some kO1 ∧ (∃ q1, (gR σ ob 2) = q1 + 1 ∧ (U_X7_find σ q1 x1 (fun r4 σ3 => (((¬ r4 = (-1) → (K 1 σ3)) ∧ (r4 = (-1) → (gK σ3 ob = some kO1 ∧ (∃ q5, (gR σ3 ob 3) = q5 + 1 ∧ (U_X7_find σ3 q5 x1 (fun r8 σ7 => (((¬ r8 = (-1) → (K 1 σ7)) ∧ (r8 = (-1) → (gK σ7 ob = some kO1 ∧ (∃ q9, (gR σ7 ob 4) = q9 + 1 ∧ (U_X7_find σ7 q9 x1 (fun r12 σ11 => (((r12 = (-1) → (K 0 σ11)) ∧ (¬ r12 = (-1) → (K 1 σ11)))))))))))))))))))))
def U_X7_letter (σ : CS) (ob : Nat) (x1 : Int32) (K : Int32 → CS → Prop) : Prop := isNm σ ob ∧ (∃ q1, (gR σ ob 0) = q1 + 1 ∧ (gK σ q1 = some kO21 ∧ (U_J6_length σ q1 (fun r4 σ3 => (((r4 ≤ x1 → (K 0 σ3)) ∧ (¬ r4 ≤ x1 → (isNm σ3 ob ∧ (∃ q5, (gR σ3 ob 0) = q5 + 1 ∧ (gK σ3 q5 = some kO21 ∧ (U_J6_charAt σ3 q5 x1 (fun r8 σ7 => (K ((r8 - 97) + 1) σ7)))))))))))))
def U_X0_isLetter (σ : CS) (x0 : Int32) (K : Int32 → CS → Prop) : Prop := ((x0 < 97 → (K 0 σ)) ∧ (¬ x0 < 97 → (((122 < x0 → (K 0 σ)) ∧ (¬ 122 < x0 → (K 1 σ))))))
def U_X0_isDigit (σ : CS) (x0 : Int32) (K : Int32 → CS → Prop) : Prop := ((x0 < 48 → (K 0 σ)) ∧ (¬ x0 < 48 → (((57 < x0 → (K 0 σ)) ∧ (¬ 57 < x0 → (K 1 σ))))))
def U_X0_find_2 (K : Int32 → CS → Prop) (x0 : Nat) (x1 : Nat) : Nat → Int32 → CS → Prop
  | 0 => fun _ _ => False
  | n + 1 => fun x2 σ => gK σ x1 = some (.inr (8, gN σ x1)) ∧ ((((Int32.ofNat (gN σ x1)) ≤ x2 → (K (-1) σ)) ∧ (¬ (Int32.ofNat (gN σ x1)) ≤ x2 → (gK σ x1 = some (.inr (8, gN σ x1)) ∧ (vp_in x2 (gN σ x1) ∧ (∃ q1, (gR σ x1 (Int32.toNatClampNeg x2)) = q1 + 1 ∧ (gK σ q1 = some kO21 ∧ (U_J6_equals σ q1 x0 (fun r4 σ3 => (((r4 = 0 → (U_X0_find_2 K x0 x1 n (x2 + 1) σ3)) ∧ (¬ r4 = 0 → (K x2 σ3)))))))))))))
def U_X0_find (σ : CS) (x0 : Nat) (x1 : Nat) (K : Int32 → CS → Prop) : Prop := ∃ n2, U_X0_find_2 K x0 x1 n2 0 σ
def U_X0_is (σ : CS) (x0 : Int32) (x1 : Int32) (x2 : Int32) (K : Int32 → CS → Prop) : Prop := ((x0 < x1 → (K 0 σ)) ∧ (¬ x0 < x1 → (((x2 < x0 → (K 0 σ)) ∧ (¬ x2 < x0 → (K 1 σ))))))
def U_X0_has (σ : CS) (x0 : Int32) (x1 : Int32) (K : Int32 → CS → Prop) : Prop := ((¬ ((x0 >>> (x1 &&& 31)) &&& 1) = (1 : Int32) → (K 0 σ)) ∧ (((x0 >>> (x1 &&& 31)) &&& 1) = (1 : Int32) → (K 1 σ)))
def U_X0_check_5 (K : Int32 → CS → Prop) (x0 : Nat) (x1 : Int32) : Nat → Int32 → Int32 → CS → Prop
  | 0 => fun _ _ _ => False
  | n + 1 => fun x2 x3 σ => ((x1 ≤ x3 → (K x2 σ)) ∧ (¬ x1 ≤ x3 → (gK σ x0 = some (.inr (1, gN σ x0)) ∧ (vp_in x3 (gN σ x0) ∧ (∀ y1 : Int32, y1 = ((3 * x2) + ((gI σ x0 (Int32.toNatClampNeg x3)) &&& 255)) - ((3 * x2) + ((gI σ x0 (Int32.toNatClampNeg x3)) &&& 255)) / 251 * 251 → (U_X0_check_5 K x0 x1 n y1 (x3 + 1) σ))))))
def U_X0_check (σ : CS) (x0 : Nat) (x1 : Int32) (K : Int32 → CS → Prop) : Prop := ∃ n5, U_X0_check_5 K x0 x1 n5 113 0 σ
theorem hdF_J2_add : fAddX.cls ≠ "java/lang/invoke/MethodHandle" ∧ fAddX.cls ≠ "java/lang/invoke/VarHandle" ∧ (parseMethodDescriptor fAddX.desc).map (fun d => d.parameters.length) = some 1 := by decide +kernel
theorem hdF_J2_get : fGetX.cls ≠ "java/lang/invoke/MethodHandle" ∧ fGetX.cls ≠ "java/lang/invoke/VarHandle" ∧ (parseMethodDescriptor fGetX.desc).map (fun d => d.parameters.length) = some 1 := by decide +kernel
theorem hdF_J2_size : fSizeX.cls ≠ "java/lang/invoke/MethodHandle" ∧ fSizeX.cls ≠ "java/lang/invoke/VarHandle" ∧ (parseMethodDescriptor fSizeX.desc).map (fun d => d.parameters.length) = some 0 := by decide +kernel
theorem hdS_J12_floorDiv : yJ12_floorDiv.cls ≠ "java/lang/invoke/MethodHandle" ∧ yJ12_floorDiv.cls ≠ "java/lang/invoke/VarHandle" ∧ (parseMethodDescriptor yJ12_floorDiv.desc).map (fun d => d.parameters.length) = some 2 := by decide +kernel
theorem hdS_J12_max_2 : yJ12_max_2.cls ≠ "java/lang/invoke/MethodHandle" ∧ yJ12_max_2.cls ≠ "java/lang/invoke/VarHandle" ∧ (parseMethodDescriptor yJ12_max_2.desc).map (fun d => d.parameters.length) = some 2 := by decide +kernel
theorem hdS_J12_min_2 : yJ12_min_2.cls ≠ "java/lang/invoke/MethodHandle" ∧ yJ12_min_2.cls ≠ "java/lang/invoke/VarHandle" ∧ (parseMethodDescriptor yJ12_min_2.desc).map (fun d => d.parameters.length) = some 2 := by decide +kernel
theorem hdS_J15_init : yJ15_init.cls ≠ "java/lang/invoke/MethodHandle" ∧ yJ15_init.cls ≠ "java/lang/invoke/VarHandle" ∧ (parseMethodDescriptor yJ15_init.desc).map (fun d => d.parameters.length) = some 0 := by decide +kernel
theorem hdS_J2_init : yJ2_init.cls ≠ "java/lang/invoke/MethodHandle" ∧ yJ2_init.cls ≠ "java/lang/invoke/VarHandle" ∧ (parseMethodDescriptor yJ2_init.desc).map (fun d => d.parameters.length) = some 1 := by decide +kernel
theorem hdS_X11_init : yX11_init.cls ≠ "java/lang/invoke/MethodHandle" ∧ yX11_init.cls ≠ "java/lang/invoke/VarHandle" ∧ (parseMethodDescriptor yX11_init.desc).map (fun d => d.parameters.length) = some 0 := by decide +kernel
theorem hdS_X15_init : yX15_init.cls ≠ "java/lang/invoke/MethodHandle" ∧ yX15_init.cls ≠ "java/lang/invoke/VarHandle" ∧ (parseMethodDescriptor yX15_init.desc).map (fun d => d.parameters.length) = some 0 := by decide +kernel
theorem hdS_X7_find : yX7_find.cls ≠ "java/lang/invoke/MethodHandle" ∧ yX7_find.cls ≠ "java/lang/invoke/VarHandle" ∧ (parseMethodDescriptor yX7_find.desc).map (fun d => d.parameters.length) = some 2 := by decide +kernel
theorem hdS_X7_init : yX7_init.cls ≠ "java/lang/invoke/MethodHandle" ∧ yX7_init.cls ≠ "java/lang/invoke/VarHandle" ∧ (parseMethodDescriptor yX7_init.desc).map (fun d => d.parameters.length) = some 1 := by decide +kernel
theorem hdV_J15_append : yJ15_append.cls = RJ15 ∧ yJ15_append.cls ≠ "java/lang/invoke/MethodHandle" ∧ yJ15_append.cls ≠ "java/lang/invoke/VarHandle" ∧ (parseMethodDescriptor yJ15_append.desc).map (fun d => d.parameters.length) = some 1 := by decide +kernel
theorem hdV_J6_charAt : yJ6_charAt.cls = RJ6 ∧ yJ6_charAt.cls ≠ "java/lang/invoke/MethodHandle" ∧ yJ6_charAt.cls ≠ "java/lang/invoke/VarHandle" ∧ (parseMethodDescriptor yJ6_charAt.desc).map (fun d => d.parameters.length) = some 1 := by decide +kernel
theorem hdV_J6_equals : yJ6_equals.cls = RJ6 ∧ yJ6_equals.cls ≠ "java/lang/invoke/MethodHandle" ∧ yJ6_equals.cls ≠ "java/lang/invoke/VarHandle" ∧ (parseMethodDescriptor yJ6_equals.desc).map (fun d => d.parameters.length) = some 1 := by decide +kernel
theorem hdV_J6_length : yJ6_length.cls = RJ6 ∧ yJ6_length.cls ≠ "java/lang/invoke/MethodHandle" ∧ yJ6_length.cls ≠ "java/lang/invoke/VarHandle" ∧ (parseMethodDescriptor yJ6_length.desc).map (fun d => d.parameters.length) = some 0 := by decide +kernel
set_option maxHeartbeats 4000000 in
set_option maxRecDepth 100000 in
theorem um_X1_init (l : Launch) (D : va_G) (dA : Nat → ClassId) (ad : Nat → Nat) (n0 : Nat) (Hs : Heap) (hA : cAd ad n0 Hs.size) (mc ms : Nat) (σ : CS) (ob : Nat) (K : Unit → CS → Prop) (hT : U_X1_init mc ms σ ob K) : Met l yX1_init (ws_ yX1_init cX1_init 1 (none)) ({ frames := 4, cells := mc, slots := ms, locals := 73 }) (va_Pc [.ref (ad ob)] (cU D dA ad n0 Hs σ)) (xQ rvU K (cU D dA ad n0 Hs) (cA ad)) mc ms (cA ad) := by
  refine xm_v hA (by decide) rfl (Nat.le_of_ble_eq_true rfl) ?_
  intro p e s m args below meth c Q hC hN hret hI ls hl
  have hx := hC.1.1
  have hb := hC.1.2.1
  have hB : 0 ≤ mc ∧ 0 ≤ ms := ⟨Nat.zero_le _, Nat.zero_le _⟩
  have hl : lv_has ls 1 [(0, .ref (ad ob))] := hl
  unfold U_X1_init at hT
  refine lv_aload_n hx hb dX1_init_0 rfl (lv_at hl 0 rfl) ?_
  refine W.objInit hx hb hC.1.2.2.2.1 (hC.1.2.2.2.2 _ q212) (hC.1.2.2.2.2 _ q205) (hC.1.2.2.2.2 _ q206) rfl (by rw [hC.1.2.2.1]; exact hl.1) rfl dX1_init_1 (Nat.le_of_ble_eq_true rfl) (Nat.le_of_ble_eq_true rfl) ?_
  refine W.eq (g2 := F0 m 4 ls []) rfl ?_
  refine lv_aload_n hx hb dX1_init_4 rfl (lv_at hl 0 rfl) ?_
  have hB := hT.1
  refine xnew20 hC hI q213 hT dX1_init_5 (fun σ1 H hT hI => ?_)
  refine lv_dup hx hb dX1_init_8 rfl ?_
  refine lv_iconst (v := 4) hx hb dX1_init_9 (by decide) ?_
  obtain ⟨mc4, ms5, hB, hT⟩ := hT
  refine x_call (x_runI (i := σ.1) hC hI (um_J2_init l D dA ad n0 Hs hC.2.2 mc4 ms5 σ1 (σ.1) 4 _ hT) q217 q162 q215 q216 rfl 1 hdS_J2_init ⟨rfl, rfl⟩ ⟨Nat.le_of_ble_eq_true rfl, Nat.le_of_ble_eq_true rfl⟩ rfl hl.1 rfl (Nat.le_of_ble_eq_true rfl) hB dX1_init_10) hI (fun _ σ2 H locs hT hI => ?_)
  refine W.eq (g2 := F0 m 13 ls [.ref (ad (σ.1)), .ref (ad ob)]) rfl ?_
  obtain ⟨hic, hT⟩ := hT
  obtain ⟨hL, hT⟩ := hT
  refine xpF1_2 (i := ob) (v := (σ.1) + 1) hC hI hN rfl hic hL hT q245 (fun _ h => h) dX1_init_13 (fun σ6 H locs hT hI => ?_)
  refine lv_aload_n hx hb dX1_init_16 rfl (lv_at hl 0 rfl) ?_
  have hB := hT.1
  refine xnew20 hC hI q213 hT dX1_init_17 (fun σ7 H hT hI => ?_)
  refine lv_dup hx hb dX1_init_20 rfl ?_
  refine lv_iconst (v := 2) hx hb dX1_init_21 (by decide) ?_
  obtain ⟨mc10, ms11, hB, hT⟩ := hT
  refine x_call (x_runI (i := σ6.1) hC hI (um_J2_init l D dA ad n0 Hs hC.2.2 mc10 ms11 σ7 (σ6.1) 2 _ hT) q217 q162 q215 q216 rfl 1 hdS_J2_init ⟨rfl, rfl⟩ ⟨Nat.le_of_ble_eq_true rfl, Nat.le_of_ble_eq_true rfl⟩ rfl hl.1 rfl (Nat.le_of_ble_eq_true rfl) hB dX1_init_22) hI (fun _ σ8 H locs hT hI => ?_)
  refine W.eq (g2 := F0 m 25 ls [.ref (ad (σ6.1)), .ref (ad ob)]) rfl ?_
  obtain ⟨hic, hT⟩ := hT
  obtain ⟨hL, hT⟩ := hT
  refine xpF1_3 (i := ob) (v := (σ6.1) + 1) hC hI hN rfl hic hL hT q248 (fun _ h => h) dX1_init_25 (fun σ12 H locs hT hI => ?_)
  refine lv_aload_n hx hb dX1_init_28 rfl (lv_at hl 0 rfl) ?_
  have hB := hT.1
  refine xnew20 hC hI q213 hT dX1_init_29 (fun σ13 H hT hI => ?_)
  refine lv_dup hx hb dX1_init_32 rfl ?_
  refine lv_iconst (v := 2) hx hb dX1_init_33 (by decide) ?_
  obtain ⟨mc16, ms17, hB, hT⟩ := hT
  refine x_call (x_runI (i := σ12.1) hC hI (um_J2_init l D dA ad n0 Hs hC.2.2 mc16 ms17 σ13 (σ12.1) 2 _ hT) q217 q162 q215 q216 rfl 1 hdS_J2_init ⟨rfl, rfl⟩ ⟨Nat.le_of_ble_eq_true rfl, Nat.le_of_ble_eq_true rfl⟩ rfl hl.1 rfl (Nat.le_of_ble_eq_true rfl) hB dX1_init_34) hI (fun _ σ14 H locs hT hI => ?_)
  refine W.eq (g2 := F0 m 37 ls [.ref (ad (σ12.1)), .ref (ad ob)]) rfl ?_
  obtain ⟨hic, hT⟩ := hT
  obtain ⟨hL, hT⟩ := hT
  refine xpF1_4 (i := ob) (v := (σ12.1) + 1) hC hI hN rfl hic hL hT q251 (fun _ h => h) dX1_init_37 (fun σ18 H locs hT hI => ?_)
  exact hret _ _ _ _ _ _ _ _ hT hI hB dX1_init_40
set_option maxHeartbeats 4000000 in
set_option maxRecDepth 100000 in
theorem um_X7_init (l : Launch) (D : va_G) (dA : Nat → ClassId) (ad : Nat → Nat) (n0 : Nat) (Hs : Heap) (hA : cAd ad n0 Hs.size) (σ : CS) (ob : Nat) (x1 : Nat) (K : Unit → CS → Prop) (hT : U_X7_init σ ob x1 K) : Met l yX7_init (ws_ yX7_init cX7_init 2 (none)) ({ frames := 1, cells := 0, slots := 0, locals := 12 }) (va_Pc [.ref (ad ob), .ref (ad x1)] (cU D dA ad n0 Hs σ)) (xQ rvU K (cU D dA ad n0 Hs) (cA ad)) 0 0 (cA ad) := by
  refine xm_v hA (by decide) rfl (Nat.le_of_ble_eq_true rfl) ?_
  intro p e s m args below meth c Q hC hN hret hI ls hl
  have hx := hC.1.1
  have hb := hC.1.2.1
  have hB : 0 ≤ 0 ∧ 0 ≤ 0 := ⟨Nat.zero_le _, Nat.zero_le _⟩
  have hl : lv_has ls 2 [(0, .ref (ad ob)), (1, .ref (ad x1))] := hl
  unfold U_X7_init at hT
  refine lv_aload_n hx hb dX7_init_0 rfl (lv_at hl 0 rfl) ?_
  refine W.objInit hx hb hC.1.2.2.2.1 (hC.1.2.2.2.2 _ q827) (hC.1.2.2.2.2 _ q205) (hC.1.2.2.2.2 _ q206) rfl (by rw [hC.1.2.2.1]; exact hl.1) rfl dX7_init_1 (Nat.le_of_ble_eq_true rfl) (Nat.le_of_ble_eq_true rfl) ?_
  refine W.eq (g2 := F0 m 4 ls []) rfl ?_
  refine lv_aload_n hx hb dX7_init_4 rfl (lv_at hl 0 rfl) ?_
  refine lv_aload_n hx hb dX7_init_5 rfl (lv_at hl 1 rfl) ?_
  refine xpNm (v := x1 + 1) hC hI hN rfl hT.1 hT.2.1 hT.2.2 q837 dX7_init_6 (fun σ1 H locs hT hI => ?_)
  exact hret _ _ _ _ _ _ _ _ hT hI hB dX7_init_9
set_option maxHeartbeats 4000000 in
set_option maxRecDepth 100000 in
theorem um_X10_init (l : Launch) (D : va_G) (dA : Nat → ClassId) (ad : Nat → Nat) (n0 : Nat) (Hs : Heap) (hA : cAd ad n0 Hs.size) (σ : CS) (ob : Nat) (x1 : Nat) (x2 : Nat) (K : Unit → CS → Prop) (hT : U_X10_init σ ob x1 x2 K) : Met l yX10_init (ws_ yX10_init cX10_init 3 (none)) ({ frames := 2, cells := 0, slots := 0, locals := 33 }) (va_Pc [.ref (ad ob), .ref (ad x1), .ref (ad x2)] (cU D dA ad n0 Hs σ)) (xQ rvU K (cU D dA ad n0 Hs) (cA ad)) 0 0 (cA ad) := by
  refine xm_v hA (by decide) rfl (Nat.le_of_ble_eq_true rfl) ?_
  intro p e s m args below meth c Q hC hN hret hI ls hl
  have hx := hC.1.1
  have hb := hC.1.2.1
  have hB : 0 ≤ 0 ∧ 0 ≤ 0 := ⟨Nat.zero_le _, Nat.zero_le _⟩
  have hl : lv_has ls 3 [(0, .ref (ad ob)), (1, .ref (ad x1)), (2, .ref (ad x2))] := hl
  unfold U_X10_init at hT
  refine lv_aload_n hx hb dX10_init_0 rfl (lv_at hl 0 rfl) ?_
  refine lv_aload_n hx hb dX10_init_1 rfl (lv_at hl 1 rfl) ?_
  refine x_call (x_runI (i := ob) hC hI (um_X7_init l D dA ad n0 Hs hC.2.2 σ ob x1 _ hT) q826 q176 q1216 q825 rfl 1 hdS_X7_init ⟨rfl, rfl⟩ ⟨Nat.le_of_ble_eq_true rfl, Nat.le_of_ble_eq_true rfl⟩ rfl hl.1 rfl (Nat.le_of_ble_eq_true rfl) hB dX10_init_2) hI (fun _ σ1 H locs hT hI => ?_)
  refine W.eq (g2 := F0 m 5 ls []) rfl ?_
  refine lv_aload_n hx hb dX10_init_5 rfl (lv_at hl 0 rfl) ?_
  refine lv_aload_n hx hb dX10_init_6 rfl (lv_at hl 2 rfl) ?_
  obtain ⟨hic, hT⟩ := hT
  obtain ⟨hL, hT⟩ := hT
  refine xpF9_1 (i := ob) (v := x2 + 1) hC hI hN rfl hic hL hT q1217 (fun _ h => h) dX10_init_7 (fun σ3 H locs hT hI => ?_)
  exact hret _ _ _ _ _ _ _ _ hT hI hB dX10_init_10
set_option maxHeartbeats 4000000 in
set_option maxRecDepth 100000 in
theorem um_X11_init (l : Launch) (D : va_G) (dA : Nat → ClassId) (ad : Nat → Nat) (n0 : Nat) (Hs : Heap) (hA : cAd ad n0 Hs.size) (σ : CS) (ob : Nat) (K : Unit → CS → Prop) (hT : U_X11_init σ ob K) : Met l yX11_init (ws_ yX11_init cX11_init 1 (none)) ({ frames := 1, cells := 0, slots := 0, locals := 12 }) (va_Pc [.ref (ad ob)] (cU D dA ad n0 Hs σ)) (xQ rvU K (cU D dA ad n0 Hs) (cA ad)) 0 0 (cA ad) := by
  refine xm_v hA (by decide) rfl (Nat.le_of_ble_eq_true rfl) ?_
  intro p e s m args below meth c Q hC hN hret hI ls hl
  have hx := hC.1.1
  have hb := hC.1.2.1
  have hB : 0 ≤ 0 ∧ 0 ≤ 0 := ⟨Nat.zero_le _, Nat.zero_le _⟩
  have hl : lv_has ls 1 [(0, .ref (ad ob))] := hl
  unfold U_X11_init at hT
  refine lv_aload_n hx hb dX11_init_0 rfl (lv_at hl 0 rfl) ?_
  refine W.objInit hx hb hC.1.2.2.2.1 (hC.1.2.2.2.2 _ q958) (hC.1.2.2.2.2 _ q205) (hC.1.2.2.2.2 _ q206) rfl (by rw [hC.1.2.2.1]; exact hl.1) rfl dX11_init_1 (Nat.le_of_ble_eq_true rfl) (Nat.le_of_ble_eq_true rfl) ?_
  refine W.eq (g2 := F0 m 4 ls []) rfl ?_
  exact hret _ _ _ _ _ _ _ _ hT hI hB dX11_init_4
set_option maxHeartbeats 4000000 in
set_option maxRecDepth 100000 in
theorem um_X12_init (l : Launch) (D : va_G) (dA : Nat → ClassId) (ad : Nat → Nat) (n0 : Nat) (Hs : Heap) (hA : cAd ad n0 Hs.size) (mc ms : Nat) (σ : CS) (ob : Nat) (x1 : Int32) (K : Unit → CS → Prop) (hT : U_X12_init mc ms σ ob x1 K) : Met l yX12_init (ws_ yX12_init cX12_init 2 (none)) ({ frames := 4, cells := mc, slots := ms, locals := 73 }) (va_Pc [.ref (ad ob), .int x1] (cU D dA ad n0 Hs σ)) (xQ rvU K (cU D dA ad n0 Hs) (cA ad)) mc ms (cA ad) := by
  refine xm_v hA (by decide) rfl (Nat.le_of_ble_eq_true rfl) ?_
  intro p e s m args below meth c Q hC hN hret hI ls hl
  have hx := hC.1.1
  have hb := hC.1.2.1
  have hB : 0 ≤ mc ∧ 0 ≤ ms := ⟨Nat.zero_le _, Nat.zero_le _⟩
  have hl : lv_has ls 2 [(0, .ref (ad ob)), (1, .int x1)] := hl
  unfold U_X12_init at hT
  refine lv_aload_n hx hb dX12_init_0 rfl (lv_at hl 0 rfl) ?_
  refine x_call (x_runIN (i := ob) hC hI (um_X11_init l D dA ad n0 Hs hC.2.2 σ ob _ hT) q957 q184 q955 q956 rfl 0 hdS_X11_init ⟨rfl, rfl⟩ ⟨Nat.le_of_ble_eq_true rfl, Nat.le_of_ble_eq_true rfl⟩ rfl hl.1 rfl (Nat.le_of_ble_eq_true rfl) hB dX12_init_1) hI (fun _ σ1 H locs hT hI => ?_)
  refine W.eq (g2 := F0 m 4 ls []) rfl ?_
  refine lv_aload_n hx hb dX12_init_4 rfl (lv_at hl 0 rfl) ?_
  have hB := hT.1
  refine xnew20 hC hI q959 hT dX12_init_5 (fun σ3 H hT hI => ?_)
  refine lv_dup hx hb dX12_init_8 rfl ?_
  refine lv_iconst (v := 2) hx hb dX12_init_9 (by decide) ?_
  obtain ⟨mc6, ms7, hB, hT⟩ := hT
  refine x_call (x_runI (i := σ1.1) hC hI (um_J2_init l D dA ad n0 Hs hC.2.2 mc6 ms7 σ3 (σ1.1) 2 _ hT) q217 q162 q960 q216 rfl 1 hdS_J2_init ⟨rfl, rfl⟩ ⟨Nat.le_of_ble_eq_true rfl, Nat.le_of_ble_eq_true rfl⟩ rfl hl.1 rfl (Nat.le_of_ble_eq_true rfl) hB dX12_init_10) hI (fun _ σ4 H locs hT hI => ?_)
  refine W.eq (g2 := F0 m 13 ls [.ref (ad (σ1.1)), .ref (ad ob)]) rfl ?_
  obtain ⟨hic, hT⟩ := hT
  obtain ⟨hL, hT⟩ := hT
  refine xpF10_0 (i := ob) (v := (σ1.1) + 1) hC hI hN rfl hic hL hT q961 (fun _ h => h) dX12_init_13 (fun σ8 H locs hT hI => ?_)
  refine lv_aload_n hx hb dX12_init_16 rfl (lv_at hl 0 rfl) ?_
  refine lv_iload_n hx hb dX12_init_17 rfl (lv_at hl 1 rfl) ?_
  obtain ⟨hic, hT⟩ := hT
  obtain ⟨hL, hT⟩ := hT
  obtain ⟨hz, hT⟩ := hT
  refine xpF10_1 (i := ob) (v := x1) hC hI hN rfl hic hL hz hT q963 (fun _ h => h) dX12_init_18 (fun σ9 H locs hT hI => ?_)
  exact hret _ _ _ _ _ _ _ _ hT hI hB dX12_init_21
set_option maxHeartbeats 4000000 in
set_option maxRecDepth 100000 in
theorem um_X13_init (l : Launch) (D : va_G) (dA : Nat → ClassId) (ad : Nat → Nat) (n0 : Nat) (Hs : Heap) (hA : cAd ad n0 Hs.size) (σ : CS) (ob : Nat) (x1 : Nat) (K : Unit → CS → Prop) (hT : U_X13_init σ ob x1 K) : Met l yX13_init (ws_ yX13_init cX13_init 2 (none)) ({ frames := 2, cells := 0, slots := 0, locals := 32 }) (va_Pc [.ref (ad ob), .ref (ad x1)] (cU D dA ad n0 Hs σ)) (xQ rvU K (cU D dA ad n0 Hs) (cA ad)) 0 0 (cA ad) := by
  refine xm_v hA (by decide) rfl (Nat.le_of_ble_eq_true rfl) ?_
  intro p e s m args below meth c Q hC hN hret hI ls hl
  have hx := hC.1.1
  have hb := hC.1.2.1
  have hB : 0 ≤ 0 ∧ 0 ≤ 0 := ⟨Nat.zero_le _, Nat.zero_le _⟩
  have hl : lv_has ls 2 [(0, .ref (ad ob)), (1, .ref (ad x1))] := hl
  unfold U_X13_init at hT
  refine lv_aload_n hx hb dX13_init_0 rfl (lv_at hl 0 rfl) ?_
  refine x_call (x_runIN (i := ob) hC hI (um_X11_init l D dA ad n0 Hs hC.2.2 σ ob _ hT) q957 q184 q995 q956 rfl 0 hdS_X11_init ⟨rfl, rfl⟩ ⟨Nat.le_of_ble_eq_true rfl, Nat.le_of_ble_eq_true rfl⟩ rfl hl.1 rfl (Nat.le_of_ble_eq_true rfl) hB dX13_init_1) hI (fun _ σ1 H locs hT hI => ?_)
  refine W.eq (g2 := F0 m 4 ls []) rfl ?_
  refine lv_aload_n hx hb dX13_init_4 rfl (lv_at hl 0 rfl) ?_
  refine lv_aload_n hx hb dX13_init_5 rfl (lv_at hl 1 rfl) ?_
  obtain ⟨hic, hT⟩ := hT
  obtain ⟨hL, hT⟩ := hT
  refine xpF11_0 (i := ob) (v := x1 + 1) hC hI hN rfl hic hL hT q996 (fun _ h => h) dX13_init_6 (fun σ3 H locs hT hI => ?_)
  exact hret _ _ _ _ _ _ _ _ hT hI hB dX13_init_9
set_option maxHeartbeats 4000000 in
set_option maxRecDepth 100000 in
theorem um_X14_init (l : Launch) (D : va_G) (dA : Nat → ClassId) (ad : Nat → Nat) (n0 : Nat) (Hs : Heap) (hA : cAd ad n0 Hs.size) (σ : CS) (ob : Nat) (K : Unit → CS → Prop) (hT : U_X14_init σ ob K) : Met l yX14_init (ws_ yX14_init cX14_init 1 (none)) ({ frames := 2, cells := 0, slots := 0, locals := 32 }) (va_Pc [.ref (ad ob)] (cU D dA ad n0 Hs σ)) (xQ rvU K (cU D dA ad n0 Hs) (cA ad)) 0 0 (cA ad) := by
  refine xm_v hA (by decide) rfl (Nat.le_of_ble_eq_true rfl) ?_
  intro p e s m args below meth c Q hC hN hret hI ls hl
  have hx := hC.1.1
  have hb := hC.1.2.1
  have hB : 0 ≤ 0 ∧ 0 ≤ 0 := ⟨Nat.zero_le _, Nat.zero_le _⟩
  have hl : lv_has ls 1 [(0, .ref (ad ob))] := hl
  unfold U_X14_init at hT
  refine lv_aload_n hx hb dX14_init_0 rfl (lv_at hl 0 rfl) ?_
  refine x_call (x_runIN (i := ob) hC hI (um_X11_init l D dA ad n0 Hs hC.2.2 σ ob _ hT) q957 q184 q1006 q956 rfl 0 hdS_X11_init ⟨rfl, rfl⟩ ⟨Nat.le_of_ble_eq_true rfl, Nat.le_of_ble_eq_true rfl⟩ rfl hl.1 rfl (Nat.le_of_ble_eq_true rfl) hB dX14_init_1) hI (fun _ σ1 H locs hT hI => ?_)
  refine W.eq (g2 := F0 m 4 ls []) rfl ?_
  exact hret _ _ _ _ _ _ _ _ hT hI hB dX14_init_4
set_option maxHeartbeats 4000000 in
set_option maxRecDepth 100000 in
theorem um_X15_init (l : Launch) (D : va_G) (dA : Nat → ClassId) (ad : Nat → Nat) (n0 : Nat) (Hs : Heap) (hA : cAd ad n0 Hs.size) (σ : CS) (ob : Nat) (K : Unit → CS → Prop) (hT : U_X15_init σ ob K) : Met l yX15_init (ws_ yX15_init cX15_init 1 (none)) ({ frames := 1, cells := 0, slots := 0, locals := 12 }) (va_Pc [.ref (ad ob)] (cU D dA ad n0 Hs σ)) (xQ rvU K (cU D dA ad n0 Hs) (cA ad)) 0 0 (cA ad) := by
  refine xm_v hA (by decide) rfl (Nat.le_of_ble_eq_true rfl) ?_
  intro p e s m args below meth c Q hC hN hret hI ls hl
  have hx := hC.1.1
  have hb := hC.1.2.1
  have hB : 0 ≤ 0 ∧ 0 ≤ 0 := ⟨Nat.zero_le _, Nat.zero_le _⟩
  have hl : lv_has ls 1 [(0, .ref (ad ob))] := hl
  unfold U_X15_init at hT
  refine lv_aload_n hx hb dX15_init_0 rfl (lv_at hl 0 rfl) ?_
  refine W.objInit hx hb hC.1.2.2.2.1 (hC.1.2.2.2.2 _ q1020) (hC.1.2.2.2.2 _ q205) (hC.1.2.2.2.2 _ q206) rfl (by rw [hC.1.2.2.1]; exact hl.1) rfl dX15_init_1 (Nat.le_of_ble_eq_true rfl) (Nat.le_of_ble_eq_true rfl) ?_
  refine W.eq (g2 := F0 m 4 ls []) rfl ?_
  exact hret _ _ _ _ _ _ _ _ hT hI hB dX15_init_4
set_option maxHeartbeats 4000000 in
set_option maxRecDepth 100000 in
theorem um_X16_init (l : Launch) (D : va_G) (dA : Nat → ClassId) (ad : Nat → Nat) (n0 : Nat) (Hs : Heap) (hA : cAd ad n0 Hs.size) (mc ms : Nat) (σ : CS) (ob : Nat) (K : Unit → CS → Prop) (hT : U_X16_init mc ms σ ob K) : Met l yX16_init (ws_ yX16_init cX16_init 1 (none)) ({ frames := 4, cells := mc, slots := ms, locals := 73 }) (va_Pc [.ref (ad ob)] (cU D dA ad n0 Hs σ)) (xQ rvU K (cU D dA ad n0 Hs) (cA ad)) mc ms (cA ad) := by
  refine xm_v hA (by decide) rfl (Nat.le_of_ble_eq_true rfl) ?_
  intro p e s m args below meth c Q hC hN hret hI ls hl
  have hx := hC.1.1
  have hb := hC.1.2.1
  have hB : 0 ≤ mc ∧ 0 ≤ ms := ⟨Nat.zero_le _, Nat.zero_le _⟩
  have hl : lv_has ls 1 [(0, .ref (ad ob))] := hl
  unfold U_X16_init at hT
  refine lv_aload_n hx hb dX16_init_0 rfl (lv_at hl 0 rfl) ?_
  refine x_call (x_runIN (i := ob) hC hI (um_X15_init l D dA ad n0 Hs hC.2.2 σ ob _ hT) q1019 q188 q1017 q1018 rfl 0 hdS_X15_init ⟨rfl, rfl⟩ ⟨Nat.le_of_ble_eq_true rfl, Nat.le_of_ble_eq_true rfl⟩ rfl hl.1 rfl (Nat.le_of_ble_eq_true rfl) hB dX16_init_1) hI (fun _ σ1 H locs hT hI => ?_)
  refine W.eq (g2 := F0 m 4 ls []) rfl ?_
  refine lv_aload_n hx hb dX16_init_4 rfl (lv_at hl 0 rfl) ?_
  have hB := hT.1
  refine xnew20 hC hI q1021 hT dX16_init_5 (fun σ3 H hT hI => ?_)
  refine lv_dup hx hb dX16_init_8 rfl ?_
  refine lv_iconst (v := 2) hx hb dX16_init_9 (by decide) ?_
  obtain ⟨mc6, ms7, hB, hT⟩ := hT
  refine x_call (x_runI (i := σ1.1) hC hI (um_J2_init l D dA ad n0 Hs hC.2.2 mc6 ms7 σ3 (σ1.1) 2 _ hT) q217 q162 q1022 q216 rfl 1 hdS_J2_init ⟨rfl, rfl⟩ ⟨Nat.le_of_ble_eq_true rfl, Nat.le_of_ble_eq_true rfl⟩ rfl hl.1 rfl (Nat.le_of_ble_eq_true rfl) hB dX16_init_10) hI (fun _ σ4 H locs hT hI => ?_)
  refine W.eq (g2 := F0 m 13 ls [.ref (ad (σ1.1)), .ref (ad ob)]) rfl ?_
  obtain ⟨hic, hT⟩ := hT
  obtain ⟨hL, hT⟩ := hT
  refine xpF13_0 (i := ob) (v := (σ1.1) + 1) hC hI hN rfl hic hL hT q1046 (fun _ h => h) dX16_init_13 (fun σ8 H locs hT hI => ?_)
  refine lv_aload_n hx hb dX16_init_16 rfl (lv_at hl 0 rfl) ?_
  have hB := hT.1
  refine xnew22 hC hI q1023 hT dX16_init_17 (fun σ9 H hT hI => ?_)
  refine lv_dup hx hb dX16_init_20 rfl ?_
  obtain ⟨mc12, ms13, hB, hT⟩ := hT
  refine x_call (x_runI (i := σ8.1) hC hI (um_J15_init l D dA ad n0 Hs hC.2.2 mc12 ms13 σ9 (σ8.1) _ hT) q1027 q191 q1025 q1026 rfl 0 hdS_J15_init ⟨rfl, rfl⟩ ⟨Nat.le_of_ble_eq_true rfl, Nat.le_of_ble_eq_true rfl⟩ rfl hl.1 rfl (Nat.le_of_ble_eq_true rfl) hB dX16_init_21) hI (fun _ σ10 H locs hT hI => ?_)
  refine W.eq (g2 := F0 m 24 ls [.ref (ad (σ8.1)), .ref (ad ob)]) rfl ?_
  obtain ⟨hic, hT⟩ := hT
  obtain ⟨hL, hT⟩ := hT
  refine xpF13_1 (i := ob) (v := (σ8.1) + 1) hC hI hN rfl hic hL hT q1047 (fun _ h => h) dX16_init_24 (fun σ14 H locs hT hI => ?_)
  exact hret _ _ _ _ _ _ _ _ hT hI hB dX16_init_27
set_option maxHeartbeats 4000000 in
set_option maxRecDepth 100000 in
theorem um_X17_init (l : Launch) (D : va_G) (dA : Nat → ClassId) (ad : Nat → Nat) (n0 : Nat) (Hs : Heap) (hA : cAd ad n0 Hs.size) (σ : CS) (ob : Nat) (x1 : Int32) (x2 : Nat) (x3 : Nat) (K : Unit → CS → Prop) (hT : U_X17_init σ ob x1 x2 x3 K) : Met l yX17_init (ws_ yX17_init cX17_init 4 (none)) ({ frames := 2, cells := 0, slots := 0, locals := 32 }) (va_Pc [.ref (ad ob), .int x1, .ref (ad x2), .ref (ad x3)] (cU D dA ad n0 Hs σ)) (xQ rvU K (cU D dA ad n0 Hs) (cA ad)) 0 0 (cA ad) := by
  refine xm_v hA (by decide) rfl (Nat.le_of_ble_eq_true rfl) ?_
  intro p e s m args below meth c Q hC hN hret hI ls hl
  have hx := hC.1.1
  have hb := hC.1.2.1
  have hB : 0 ≤ 0 ∧ 0 ≤ 0 := ⟨Nat.zero_le _, Nat.zero_le _⟩
  have hl : lv_has ls 4 [(0, .ref (ad ob)), (1, .int x1), (2, .ref (ad x2)), (3, .ref (ad x3))] := hl
  unfold U_X17_init at hT
  refine lv_aload_n hx hb dX17_init_0 rfl (lv_at hl 0 rfl) ?_
  refine x_call (x_runIN (i := ob) hC hI (um_X15_init l D dA ad n0 Hs hC.2.2 σ ob _ hT) q1019 q188 q1070 q1018 rfl 0 hdS_X15_init ⟨rfl, rfl⟩ ⟨Nat.le_of_ble_eq_true rfl, Nat.le_of_ble_eq_true rfl⟩ rfl hl.1 rfl (Nat.le_of_ble_eq_true rfl) hB dX17_init_1) hI (fun _ σ1 H locs hT hI => ?_)
  refine W.eq (g2 := F0 m 4 ls []) rfl ?_
  refine lv_aload_n hx hb dX17_init_4 rfl (lv_at hl 0 rfl) ?_
  refine lv_iload_n hx hb dX17_init_5 rfl (lv_at hl 1 rfl) ?_
  obtain ⟨hic, hT⟩ := hT
  obtain ⟨hL, hT⟩ := hT
  obtain ⟨hz, hT⟩ := hT
  refine xpF14_0 (i := ob) (v := x1) hC hI hN rfl hic hL hz hT q1071 (fun _ h => h) dX17_init_6 (fun σ3 H locs hT hI => ?_)
  refine lv_aload_n hx hb dX17_init_9 rfl (lv_at hl 0 rfl) ?_
  refine lv_aload_n hx hb dX17_init_10 rfl (lv_at hl 2 rfl) ?_
  obtain ⟨hic, hT⟩ := hT
  obtain ⟨hL, hT⟩ := hT
  refine xpF14_1 (i := ob) (v := x2 + 1) hC hI hN rfl hic hL hT q1072 (fun _ h => h) dX17_init_11 (fun σ4 H locs hT hI => ?_)
  refine lv_aload_n hx hb dX17_init_14 rfl (lv_at hl 0 rfl) ?_
  refine lv_aload_n hx hb dX17_init_15 rfl (lv_at hl 3 rfl) ?_
  obtain ⟨hic, hT⟩ := hT
  obtain ⟨hL, hT⟩ := hT
  refine xpF14_2 (i := ob) (v := x3 + 1) hC hI hN rfl hic hL hT q1073 (fun _ h => h) dX17_init_16 (fun σ5 H locs hT hI => ?_)
  exact hret _ _ _ _ _ _ _ _ hT hI hB dX17_init_19
set_option maxHeartbeats 4000000 in
set_option maxRecDepth 100000 in
theorem um_X18_init (l : Launch) (D : va_G) (dA : Nat → ClassId) (ad : Nat → Nat) (n0 : Nat) (Hs : Heap) (hA : cAd ad n0 Hs.size) (σ : CS) (ob : Nat) (x1 : Int64) (K : Unit → CS → Prop) (hT : U_X18_init σ ob x1 K) : Met l yX18_init (ws_ yX18_init cX18_init 3 (none)) ({ frames := 2, cells := 0, slots := 0, locals := 32 }) (va_Pc [.ref (ad ob), .long x1] (cU D dA ad n0 Hs σ)) (xQ rvU K (cU D dA ad n0 Hs) (cA ad)) 0 0 (cA ad) := by
  refine xm_v hA (by decide) rfl (Nat.le_of_ble_eq_true rfl) ?_
  intro p e s m args below meth c Q hC hN hret hI ls hl
  have hx := hC.1.1
  have hb := hC.1.2.1
  have hB : 0 ≤ 0 ∧ 0 ≤ 0 := ⟨Nat.zero_le _, Nat.zero_le _⟩
  have hl : lv_has ls 3 [(0, .ref (ad ob)), (1, .long x1)] := hl
  unfold U_X18_init at hT
  refine lv_aload_n hx hb dX18_init_0 rfl (lv_at hl 0 rfl) ?_
  refine x_call (x_runIN (i := ob) hC hI (um_X15_init l D dA ad n0 Hs hC.2.2 σ ob _ hT) q1019 q188 q1086 q1018 rfl 0 hdS_X15_init ⟨rfl, rfl⟩ ⟨Nat.le_of_ble_eq_true rfl, Nat.le_of_ble_eq_true rfl⟩ rfl hl.1 rfl (Nat.le_of_ble_eq_true rfl) hB dX18_init_1) hI (fun _ σ1 H locs hT hI => ?_)
  refine W.eq (g2 := F0 m 4 ls []) rfl ?_
  refine lv_aload_n hx hb dX18_init_4 rfl (lv_at hl 0 rfl) ?_
  refine lv_lload_n hx hb dX18_init_5 rfl (lv_at hl 1 rfl) ?_
  obtain ⟨hic, hT⟩ := hT
  obtain ⟨hL, hT⟩ := hT
  refine xpF15_0 (i := ob) (v := x1) hC hI hN rfl hic hL hT q1087 (fun _ h => h) dX18_init_6 (fun σ3 H locs hT hI => ?_)
  exact hret _ _ _ _ _ _ _ _ hT hI hB dX18_init_9
set_option maxHeartbeats 4000000 in
set_option maxRecDepth 100000 in
theorem um_X19_init (l : Launch) (D : va_G) (dA : Nat → ClassId) (ad : Nat → Nat) (n0 : Nat) (Hs : Heap) (hA : cAd ad n0 Hs.size) (σ : CS) (ob : Nat) (x1 : Int32) (K : Unit → CS → Prop) (hT : U_X19_init σ ob x1 K) : Met l yX19_init (ws_ yX19_init cX19_init 2 (none)) ({ frames := 2, cells := 0, slots := 0, locals := 32 }) (va_Pc [.ref (ad ob), .int x1] (cU D dA ad n0 Hs σ)) (xQ rvU K (cU D dA ad n0 Hs) (cA ad)) 0 0 (cA ad) := by
  refine xm_v hA (by decide) rfl (Nat.le_of_ble_eq_true rfl) ?_
  intro p e s m args below meth c Q hC hN hret hI ls hl
  have hx := hC.1.1
  have hb := hC.1.2.1
  have hB : 0 ≤ 0 ∧ 0 ≤ 0 := ⟨Nat.zero_le _, Nat.zero_le _⟩
  have hl : lv_has ls 2 [(0, .ref (ad ob)), (1, .int x1)] := hl
  unfold U_X19_init at hT
  refine lv_aload_n hx hb dX19_init_0 rfl (lv_at hl 0 rfl) ?_
  refine x_call (x_runIN (i := ob) hC hI (um_X15_init l D dA ad n0 Hs hC.2.2 σ ob _ hT) q1019 q188 q1101 q1018 rfl 0 hdS_X15_init ⟨rfl, rfl⟩ ⟨Nat.le_of_ble_eq_true rfl, Nat.le_of_ble_eq_true rfl⟩ rfl hl.1 rfl (Nat.le_of_ble_eq_true rfl) hB dX19_init_1) hI (fun _ σ1 H locs hT hI => ?_)
  refine W.eq (g2 := F0 m 4 ls []) rfl ?_
  refine lv_aload_n hx hb dX19_init_4 rfl (lv_at hl 0 rfl) ?_
  refine lv_iload_n hx hb dX19_init_5 rfl (lv_at hl 1 rfl) ?_
  obtain ⟨hic, hT⟩ := hT
  obtain ⟨hL, hT⟩ := hT
  refine xpF16_0 (i := ob) (v := x1) hC hI hN rfl hic hL hT q1102 (fun _ h => h) dX19_init_6 (fun σ3 H locs hT hI => ?_)
  exact hret _ _ _ _ _ _ _ _ hT hI hB dX19_init_9
set_option maxHeartbeats 4000000 in
set_option maxRecDepth 100000 in
theorem um_X20_init (l : Launch) (D : va_G) (dA : Nat → ClassId) (ad : Nat → Nat) (n0 : Nat) (Hs : Heap) (hA : cAd ad n0 Hs.size) (σ : CS) (ob : Nat) (x1 : Nat) (x2 : Int32) (x3 : Nat) (K : Unit → CS → Prop) (hT : U_X20_init σ ob x1 x2 x3 K) : Met l yX20_init (ws_ yX20_init cX20_init 4 (none)) ({ frames := 2, cells := 0, slots := 0, locals := 32 }) (va_Pc [.ref (ad ob), .ref (ad x1), .int x2, .ref (ad x3)] (cU D dA ad n0 Hs σ)) (xQ rvU K (cU D dA ad n0 Hs) (cA ad)) 0 0 (cA ad) := by
  refine xm_v hA (by decide) rfl (Nat.le_of_ble_eq_true rfl) ?_
  intro p e s m args below meth c Q hC hN hret hI ls hl
  have hx := hC.1.1
  have hb := hC.1.2.1
  have hB : 0 ≤ 0 ∧ 0 ≤ 0 := ⟨Nat.zero_le _, Nat.zero_le _⟩
  have hl : lv_has ls 4 [(0, .ref (ad ob)), (1, .ref (ad x1)), (2, .int x2), (3, .ref (ad x3))] := hl
  unfold U_X20_init at hT
  refine lv_aload_n hx hb dX20_init_0 rfl (lv_at hl 0 rfl) ?_
  refine lv_aload_n hx hb dX20_init_1 rfl (lv_at hl 1 rfl) ?_
  obtain ⟨hic, hT⟩ := hT
  obtain ⟨hL, hT⟩ := hT
  refine xpF17_2 (i := ob) (v := x1 + 1) hC hI hN rfl hic hL hT q1120 (fun _ h => h) dX20_init_2 (fun σ1 H locs hT hI => ?_)
  refine lv_aload_n hx hb dX20_init_5 rfl (lv_at hl 0 rfl) ?_
  refine x_call (x_runIN (i := ob) hC hI (um_X15_init l D dA ad n0 Hs hC.2.2 σ1 ob _ hT) q1019 q188 q1117 q1018 rfl 0 hdS_X15_init ⟨rfl, rfl⟩ ⟨Nat.le_of_ble_eq_true rfl, Nat.le_of_ble_eq_true rfl⟩ rfl hl.1 rfl (Nat.le_of_ble_eq_true rfl) hB dX20_init_6) hI (fun _ σ2 H locs hT hI => ?_)
  refine W.eq (g2 := F0 m 9 ls []) rfl ?_
  refine lv_aload_n hx hb dX20_init_9 rfl (lv_at hl 0 rfl) ?_
  refine lv_iload_n hx hb dX20_init_10 rfl (lv_at hl 2 rfl) ?_
  obtain ⟨hic, hT⟩ := hT
  obtain ⟨hL, hT⟩ := hT
  refine xpF17_0 (i := ob) (v := x2) hC hI hN rfl hic hL hT q1118 (fun _ h => h) dX20_init_11 (fun σ4 H locs hT hI => ?_)
  refine lv_aload_n hx hb dX20_init_14 rfl (lv_at hl 0 rfl) ?_
  refine lv_aload_n hx hb dX20_init_15 rfl (lv_at hl 3 rfl) ?_
  obtain ⟨hic, hT⟩ := hT
  obtain ⟨hL, hT⟩ := hT
  refine xpF17_1 (i := ob) (v := x3 + 1) hC hI hN rfl hic hL hT q1119 (fun _ h => h) dX20_init_16 (fun σ5 H locs hT hI => ?_)
  exact hret _ _ _ _ _ _ _ _ hT hI hB dX20_init_19
set_option maxHeartbeats 4000000 in
set_option maxRecDepth 100000 in
theorem um_X21_init (l : Launch) (D : va_G) (dA : Nat → ClassId) (ad : Nat → Nat) (n0 : Nat) (Hs : Heap) (hA : cAd ad n0 Hs.size) (σ : CS) (ob : Nat) (x1 : Nat) (x2 : Int32) (x3 : Nat) (K : Unit → CS → Prop) (hT : U_X21_init σ ob x1 x2 x3 K) : Met l yX21_init (ws_ yX21_init cX21_init 4 (none)) ({ frames := 2, cells := 0, slots := 0, locals := 32 }) (va_Pc [.ref (ad ob), .ref (ad x1), .int x2, .ref (ad x3)] (cU D dA ad n0 Hs σ)) (xQ rvU K (cU D dA ad n0 Hs) (cA ad)) 0 0 (cA ad) := by
  refine xm_v hA (by decide) rfl (Nat.le_of_ble_eq_true rfl) ?_
  intro p e s m args below meth c Q hC hN hret hI ls hl
  have hx := hC.1.1
  have hb := hC.1.2.1
  have hB : 0 ≤ 0 ∧ 0 ≤ 0 := ⟨Nat.zero_le _, Nat.zero_le _⟩
  have hl : lv_has ls 4 [(0, .ref (ad ob)), (1, .ref (ad x1)), (2, .int x2), (3, .ref (ad x3))] := hl
  unfold U_X21_init at hT
  refine lv_aload_n hx hb dX21_init_0 rfl (lv_at hl 0 rfl) ?_
  refine x_call (x_runIN (i := ob) hC hI (um_X11_init l D dA ad n0 Hs hC.2.2 σ ob _ hT) q957 q184 q1200 q956 rfl 0 hdS_X11_init ⟨rfl, rfl⟩ ⟨Nat.le_of_ble_eq_true rfl, Nat.le_of_ble_eq_true rfl⟩ rfl hl.1 rfl (Nat.le_of_ble_eq_true rfl) hB dX21_init_1) hI (fun _ σ1 H locs hT hI => ?_)
  refine W.eq (g2 := F0 m 4 ls []) rfl ?_
  refine lv_aload_n hx hb dX21_init_4 rfl (lv_at hl 0 rfl) ?_
  refine lv_aload_n hx hb dX21_init_5 rfl (lv_at hl 1 rfl) ?_
  obtain ⟨hic, hT⟩ := hT
  obtain ⟨hL, hT⟩ := hT
  refine xpF18_0 (i := ob) (v := x1 + 1) hC hI hN rfl hic hL hT q1201 (fun _ h => h) dX21_init_6 (fun σ3 H locs hT hI => ?_)
  refine lv_aload_n hx hb dX21_init_9 rfl (lv_at hl 0 rfl) ?_
  refine lv_iload_n hx hb dX21_init_10 rfl (lv_at hl 2 rfl) ?_
  obtain ⟨hic, hT⟩ := hT
  obtain ⟨hL, hT⟩ := hT
  refine xpF18_2 (i := ob) (v := x2) hC hI hN rfl hic hL hT q1203 (fun _ h => h) dX21_init_11 (fun σ4 H locs hT hI => ?_)
  refine lv_aload_n hx hb dX21_init_14 rfl (lv_at hl 0 rfl) ?_
  refine lv_aload_n hx hb dX21_init_15 rfl (lv_at hl 3 rfl) ?_
  obtain ⟨hic, hT⟩ := hT
  obtain ⟨hL, hT⟩ := hT
  refine xpF18_1 (i := ob) (v := x3 + 1) hC hI hN rfl hic hL hT q1202 (fun _ h => h) dX21_init_16 (fun σ5 H locs hT hI => ?_)
  exact hret _ _ _ _ _ _ _ _ hT hI hB dX21_init_19
set_option maxHeartbeats 4000000 in
set_option maxRecDepth 100000 in
theorem um_X22_init (l : Launch) (D : va_G) (dA : Nat → ClassId) (ad : Nat → Nat) (n0 : Nat) (Hs : Heap) (hA : cAd ad n0 Hs.size) (σ : CS) (ob : Nat) (x1 : Int32) (x2 : Nat) (x3 : Nat) (K : Unit → CS → Prop) (hT : U_X22_init σ ob x1 x2 x3 K) : Met l yX22_init (ws_ yX22_init cX22_init 4 (none)) ({ frames := 1, cells := 0, slots := 0, locals := 12 }) (va_Pc [.ref (ad ob), .int x1, va_rf (rgR ad x2), va_rf (rgR ad x3)] (cU D dA ad n0 Hs σ)) (xQ rvU K (cU D dA ad n0 Hs) (cA ad)) 0 0 (cA ad) := by
  refine xm_v hA (by decide) rfl (by cases x2 <;> cases x3 <;> exact (Nat.le_of_ble_eq_true rfl)) ?_
  intro p e s m args below meth c Q hC hN hret hI ls hl
  have hx := hC.1.1
  have hb := hC.1.2.1
  have hB : 0 ≤ 0 ∧ 0 ≤ 0 := ⟨Nat.zero_le _, Nat.zero_le _⟩
  have hl : lv_has ls 4 [(0, .ref (ad ob)), (1, .int x1), (2, va_rf (rgR ad x2)), (3, va_rf (rgR ad x3))] := by cases x2 <;> cases x3 <;> exact hl
  unfold U_X22_init at hT
  refine lv_aload_n hx hb dX22_init_0 rfl (lv_at hl 0 rfl) ?_
  refine W.objInit hx hb hC.1.2.2.2.1 (hC.1.2.2.2.2 _ q1637) (hC.1.2.2.2.2 _ q205) (hC.1.2.2.2.2 _ q206) rfl (by rw [hC.1.2.2.1]; exact hl.1) rfl dX22_init_1 (Nat.le_of_ble_eq_true rfl) (Nat.le_of_ble_eq_true rfl) ?_
  refine W.eq (g2 := F0 m 4 ls []) rfl ?_
  refine lv_aload_n hx hb dX22_init_4 rfl (lv_at hl 0 rfl) ?_
  refine lv_ldc2 hx hb hC.1.2.2.2.1 (hC.1.2.2.2.2 _ q1638) dX22_init_5 ?_
  obtain ⟨hic, hT⟩ := hT
  obtain ⟨hL, hT⟩ := hT
  refine xp19_3 (i := ob) (v := -1) hC hI hic hL hT q1642 (fun _ h => h) dX22_init_8 (fun σ1 H locs hT hI => ?_)
  refine lv_aload_n hx hb dX22_init_11 rfl (lv_at hl 0 rfl) ?_
  refine lv_iload_n hx hb dX22_init_12 rfl (lv_at hl 1 rfl) ?_
  obtain ⟨hic, hT⟩ := hT
  obtain ⟨hL, hT⟩ := hT
  refine xpF19_0 (i := ob) (v := x1) hC hI hN rfl hic hL hT q1639 (fun _ h => h) dX22_init_13 (fun σ2 H locs hT hI => ?_)
  refine lv_aload_n hx hb dX22_init_16 rfl (lv_at hl 0 rfl) ?_
  refine x_aload_n hx hb dX22_init_17 rfl (lv_at hl 2 rfl) ?_
  obtain ⟨hic, hT⟩ := hT
  obtain ⟨hL, hT⟩ := hT
  refine xpF19_1 (i := ob) (v := x2) hC hI hN rfl hic hL hT q1640 (fun _ h => h) dX22_init_18 (fun σ3 H locs hT hI => ?_)
  refine lv_aload_n hx hb dX22_init_21 rfl (lv_at hl 0 rfl) ?_
  refine x_aload_n hx hb dX22_init_22 rfl (lv_at hl 3 rfl) ?_
  obtain ⟨hic, hT⟩ := hT
  obtain ⟨hL, hT⟩ := hT
  refine xpF19_2 (i := ob) (v := x3) hC hI hN rfl hic hL hT q1641 (fun _ h => h) dX22_init_23 (fun σ4 H locs hT hI => ?_)
  exact hret _ _ _ _ _ _ _ _ hT hI hB dX22_init_26
set_option maxHeartbeats 4000000 in
set_option maxRecDepth 100000 in
theorem um_X8_init (l : Launch) (D : va_G) (dA : Nat → ClassId) (ad : Nat → Nat) (n0 : Nat) (Hs : Heap) (hA : cAd ad n0 Hs.size) (σ : CS) (ob : Nat) (x1 : Nat) (x2 : Int32) (x3 : Int32) (x4 : Int32) (K : Unit → CS → Prop) (hT : U_X8_init σ ob x1 x2 x3 x4 K) : Met l yX8_init (ws_ yX8_init cX8_init 5 (none)) ({ frames := 2, cells := 0, slots := 0, locals := 33 }) (va_Pc [.ref (ad ob), .ref (ad x1), .int x2, .int x3, .int x4] (cU D dA ad n0 Hs σ)) (xQ rvU K (cU D dA ad n0 Hs) (cA ad)) 0 0 (cA ad) := by
  refine xm_v hA (by decide) rfl (Nat.le_of_ble_eq_true rfl) ?_
  intro p e s m args below meth c Q hC hN hret hI ls hl
  have hx := hC.1.1
  have hb := hC.1.2.1
  have hB : 0 ≤ 0 ∧ 0 ≤ 0 := ⟨Nat.zero_le _, Nat.zero_le _⟩
  have hl : lv_has ls 5 [(0, .ref (ad ob)), (1, .ref (ad x1)), (2, .int x2), (3, .int x3), (4, .int x4)] := hl
  unfold U_X8_init at hT
  refine lv_aload_n hx hb dX8_init_0 rfl (lv_at hl 0 rfl) ?_
  refine lv_aload_n hx hb dX8_init_1 rfl (lv_at hl 1 rfl) ?_
  refine x_call (x_runI (i := ob) hC hI (um_X7_init l D dA ad n0 Hs hC.2.2 σ ob x1 _ hT) q826 q176 q824 q825 rfl 1 hdS_X7_init ⟨rfl, rfl⟩ ⟨Nat.le_of_ble_eq_true rfl, Nat.le_of_ble_eq_true rfl⟩ rfl hl.1 rfl (Nat.le_of_ble_eq_true rfl) hB dX8_init_2) hI (fun _ σ1 H locs hT hI => ?_)
  refine W.eq (g2 := F0 m 5 ls []) rfl ?_
  refine lv_aload_n hx hb dX8_init_5 rfl (lv_at hl 0 rfl) ?_
  refine lv_iload_n hx hb dX8_init_6 rfl (lv_at hl 2 rfl) ?_
  obtain ⟨hic, hT⟩ := hT
  obtain ⟨hL, hT⟩ := hT
  refine xpF7_1 (i := ob) (v := x2) hC hI hN rfl hic hL hT q828 (fun _ h => h) dX8_init_7 (fun σ3 H locs hT hI => ?_)
  refine lv_aload_n hx hb dX8_init_10 rfl (lv_at hl 0 rfl) ?_
  refine lv_iload_n hx hb dX8_init_11 rfl (lv_at hl 3 rfl) ?_
  obtain ⟨hic, hT⟩ := hT
  obtain ⟨hL, hT⟩ := hT
  refine xpF7_2 (i := ob) (v := x3) hC hI hN rfl hic hL hT q831 (fun _ h => h) dX8_init_12 (fun σ4 H locs hT hI => ?_)
  refine lv_aload_n hx hb dX8_init_15 rfl (lv_at hl 0 rfl) ?_
  refine lv_iload hx hb dX8_init_16 (lv_at hl 4 rfl) ?_
  obtain ⟨hic, hT⟩ := hT
  obtain ⟨hL, hT⟩ := hT
  refine xpF7_3 (i := ob) (v := x4) hC hI hN rfl hic hL hT q834 (fun _ h => h) dX8_init_18 (fun σ5 H locs hT hI => ?_)
  exact hret _ _ _ _ _ _ _ _ hT hI hB dX8_init_21
set_option maxHeartbeats 4000000 in
set_option maxRecDepth 100000 in
theorem um_X9_init (l : Launch) (D : va_G) (dA : Nat → ClassId) (ad : Nat → Nat) (n0 : Nat) (Hs : Heap) (hA : cAd ad n0 Hs.size) (σ : CS) (ob : Nat) (x1 : Nat) (x2 : Int32) (x3 : Int32) (K : Unit → CS → Prop) (hT : U_X9_init σ ob x1 x2 x3 K) : Met l yX9_init (ws_ yX9_init cX9_init 4 (none)) ({ frames := 2, cells := 0, slots := 0, locals := 33 }) (va_Pc [.ref (ad ob), .ref (ad x1), .int x2, .int x3] (cU D dA ad n0 Hs σ)) (xQ rvU K (cU D dA ad n0 Hs) (cA ad)) 0 0 (cA ad) := by
  refine xm_v hA (by decide) rfl (Nat.le_of_ble_eq_true rfl) ?_
  intro p e s m args below meth c Q hC hN hret hI ls hl
  have hx := hC.1.1
  have hb := hC.1.2.1
  have hB : 0 ≤ 0 ∧ 0 ≤ 0 := ⟨Nat.zero_le _, Nat.zero_le _⟩
  have hl : lv_has ls 4 [(0, .ref (ad ob)), (1, .ref (ad x1)), (2, .int x2), (3, .int x3)] := hl
  unfold U_X9_init at hT
  refine lv_aload_n hx hb dX9_init_0 rfl (lv_at hl 0 rfl) ?_
  refine lv_aload_n hx hb dX9_init_1 rfl (lv_at hl 1 rfl) ?_
  refine x_call (x_runI (i := ob) hC hI (um_X7_init l D dA ad n0 Hs hC.2.2 σ ob x1 _ hT) q826 q176 q930 q825 rfl 1 hdS_X7_init ⟨rfl, rfl⟩ ⟨Nat.le_of_ble_eq_true rfl, Nat.le_of_ble_eq_true rfl⟩ rfl hl.1 rfl (Nat.le_of_ble_eq_true rfl) hB dX9_init_2) hI (fun _ σ1 H locs hT hI => ?_)
  refine W.eq (g2 := F0 m 5 ls []) rfl ?_
  refine lv_aload_n hx hb dX9_init_5 rfl (lv_at hl 0 rfl) ?_
  refine lv_iload_n hx hb dX9_init_6 rfl (lv_at hl 2 rfl) ?_
  obtain ⟨hic, hT⟩ := hT
  obtain ⟨hL, hT⟩ := hT
  refine xpF8_1 (i := ob) (v := x2) hC hI hN rfl hic hL hT q931 (fun _ h => h) dX9_init_7 (fun σ3 H locs hT hI => ?_)
  refine lv_aload_n hx hb dX9_init_10 rfl (lv_at hl 0 rfl) ?_
  refine lv_iload_n hx hb dX9_init_11 rfl (lv_at hl 3 rfl) ?_
  obtain ⟨hic, hT⟩ := hT
  obtain ⟨hL, hT⟩ := hT
  refine xpF8_2 (i := ob) (v := x3) hC hI hN rfl hic hL hT q934 (fun _ h => h) dX9_init_12 (fun σ4 H locs hT hI => ?_)
  exact hret _ _ _ _ _ _ _ _ hT hI hB dX9_init_15
set_option maxHeartbeats 4000000 in
set_option maxRecDepth 100000 in
theorem um_X16_add (l : Launch) (D : va_G) (dA : Nat → ClassId) (ad : Nat → Nat) (n0 : Nat) (Hs : Heap) (hA : cAd ad n0 Hs.size) (mc ms : Nat) (σ : CS) (ob : Nat) (x1 : Int32) (x2 : Nat) (K : Unit → CS → Prop) (hT : U_X16_add mc ms σ ob x1 x2 K) : Met l yX16_add (ws_ yX16_add cX16_add 3 (none)) ({ frames := 8, cells := mc, slots := ms, locals := 171 }) (va_Pc [.ref (ad ob), .int x1, .ref (ad x2)] (cU D dA ad n0 Hs σ)) (xQ rvU K (cU D dA ad n0 Hs) (cA ad)) mc ms (cA ad) := by
  refine xm_v hA (by decide) rfl (Nat.le_of_ble_eq_true rfl) ?_
  intro p e s m args below meth c Q hC hN hret hI ls hl
  have hx := hC.1.1
  have hb := hC.1.2.1
  have hB : 0 ≤ mc ∧ 0 ≤ ms := ⟨Nat.zero_le _, Nat.zero_le _⟩
  have hl : lv_has ls 3 [(0, .ref (ad ob)), (1, .int x1), (2, .ref (ad x2))] := hl
  unfold U_X16_add at hT
  refine lv_aload_n hx hb dX16_add_0 rfl (lv_at hl 0 rfl) ?_
  obtain ⟨hL, hT⟩ := hT
  refine xg13_1 (i := ob) hC hI hL q1047 (fun _ h => h) dX16_add_1 ?_
  refine lv_iload_n hx hb dX16_add_4 rfl (lv_at hl 1 rfl) ?_
  obtain ⟨q1, hq2, hT⟩ := hT
  refine W.eq (congrArg (fun z => F0 m 5 ls [.int x1, z]) (xrq hq2)) ?_
  obtain ⟨hL, hT⟩ := hT
  obtain ⟨mc5, ms6, hB, hT⟩ := hT
  refine x_call (x_runV (i := q1) hC hI hL rfl (um_J15_append l D dA ad n0 Hs hC.2.2 mc5 ms6 σ q1 x1 _ hT) (lw_V q1134 q1135 q1136 q191 q1137) 1 hdV_J15_append ⟨rfl, rfl⟩ ⟨Nat.le_of_ble_eq_true rfl, Nat.le_of_ble_eq_true rfl⟩ rfl hl.1 rfl (Nat.le_of_ble_eq_true rfl) hB dX16_add_5) hI (fun r4 σ3 H locs hT hI => ?_)
  refine W.eq (g2 := F0 m 8 ls [va_rf (rgR ad r4)]) rfl ?_
  refine lv_pop hx hb dX16_add_8 (va_rf_cat _) ?_
  refine lv_aload_n hx hb dX16_add_9 rfl (lv_at hl 0 rfl) ?_
  obtain ⟨hL, hT⟩ := hT
  refine xg13_0 (i := ob) hC hI hL q1046 (fun _ h => h) dX16_add_10 ?_
  refine lv_aload_n hx hb dX16_add_13 rfl (lv_at hl 2 rfl) ?_
  obtain ⟨q7, hq8, hT⟩ := hT
  refine W.eq (congrArg (fun z => F0 m 14 ls [.ref (ad x2), z]) (xrq hq8)) ?_
  obtain ⟨hL, hT⟩ := hT
  obtain ⟨mc11, ms12, hB, hT⟩ := hT
  refine x_call5 (x_runF (i := q7) hC hI hL rfl (um_J2_add l D dA ad n0 Hs hC.2.2 mc11 ms12 σ3 q7 x2 _ hT) (lw_app (a := [.methodLink _ _ _, .selects _ _ _, .instanceMethod _, .initialized _]) (lw4 q1190 q851 q853 q162) (lw_meth q855)) hC.2.1.2.2.2.1.2.2 1 hdF_J2_add ⟨rfl, rfl⟩ ⟨Nat.le_of_ble_eq_true rfl, Nat.le_of_ble_eq_true rfl⟩ rfl hl.1 rfl (Nat.le_of_ble_eq_true rfl) hB dX16_add_14) hI (fun r10 σ9 H locs hT hI => ?_)
  refine W.eq (g2 := F0 m 19 ls [.int r10]) rfl ?_
  refine lv_pop hx hb dX16_add_19 rfl ?_
  exact hret _ _ _ _ _ _ _ _ hT hI hB dX16_add_20
set_option maxHeartbeats 4000000 in
set_option maxRecDepth 100000 in
theorem um_X16_two (l : Launch) (D : va_G) (dA : Nat → ClassId) (ad : Nat → Nat) (n0 : Nat) (Hs : Heap) (hA : cAd ad n0 Hs.size) (σ : CS) (x0 : Int32) (x1 : Int64) (x3 : Int64) (K : Int64 → CS → Prop) (hT : U_X16_two σ x0 x1 x3 K) : Met l yX16_two (ws_ yX16_two cX16_two 5 (some .long)) ({ frames := 2, cells := 0, slots := 0, locals := 37 }) (va_Pc [.int x0, .long x1, .long x3] (cU D dA ad n0 Hs σ)) (xQ rvL K (cU D dA ad n0 Hs) (cA ad)) 0 0 (cA ad) := by
  refine xm_l hA (by decide) rfl (Nat.le_of_ble_eq_true rfl) ?_
  intro p e s m args below meth c Q hC hN hret hI ls hl
  have hx := hC.1.1
  have hb := hC.1.2.1
  have hB : 0 ≤ 0 ∧ 0 ≤ 0 := ⟨Nat.zero_le _, Nat.zero_le _⟩
  have hl : lv_has ls 5 [(0, .int x0), (1, .long x1), (3, .long x3)] := hl
  unfold U_X16_two at hT
  refine lv_iload_n hx hb dX16_two_0 rfl (lv_at hl 0 rfl) ?_
  by_cases c0 : x0 = 42
  · replace hT := hT.1 c0
    refine lv_tableIn (tgt := 40) hx hb dX16_two_1 (by rw [c0]; decide) (by rw [c0]; decide) (by rw [c0]; rfl) (by decide) ?_
    refine lv_lload_n hx hb dX16_two_40 rfl (lv_at hl 1 rfl) ?_
    refine lv_lload_n hx hb dX16_two_41 rfl (lv_at hl 2 rfl) ?_
    refine lv_lmul hx hb dX16_two_42 ?_
    exact hret _ _ _ _ _ _ _ _ hT hI hB dX16_two_43
  replace hT := hT.2 c0
  by_cases c1 : x0 = 43
  · replace hT := hT.1 c1
    refine lv_tableIn (tgt := 32) hx hb dX16_two_1 (by rw [c1]; decide) (by rw [c1]; decide) (by rw [c1]; rfl) (by decide) ?_
    refine lv_lload_n hx hb dX16_two_32 rfl (lv_at hl 1 rfl) ?_
    refine lv_lload_n hx hb dX16_two_33 rfl (lv_at hl 2 rfl) ?_
    refine lv_ladd hx hb dX16_two_34 ?_
    exact hret _ _ _ _ _ _ _ _ hT hI hB dX16_two_35
  replace hT := hT.2 c1
  by_cases c2 : x0 = 44
  · replace hT := hT.1 c2
    refine lv_tableIn (tgt := 44) hx hb dX16_two_1 (by rw [c2]; decide) (by rw [c2]; decide) (by rw [c2]; rfl) (by decide) ?_
    refine lv_lload_n hx hb dX16_two_44 rfl (lv_at hl 2 rfl) ?_
    refine lv_lconst (v := 0) hx hb dX16_two_45 (by decide) ?_
    refine rl_ne (tgt := 54) hx hb dX16_two_46 dX16_two_47 (by decide) (fun hc => ?_) (fun hc => ?_)
    · replace hT := hT.1 hc
      refine lv_lload_n hx hb dX16_two_54 rfl (lv_at hl 1 rfl) ?_
      refine lv_lload_n hx hb dX16_two_55 rfl (lv_at hl 2 rfl) ?_
      refine x_call (x_runS hC hI (um_J12_floorDiv l D dA ad n0 Hs hC.2.2 σ x1 x3 _ hT) (lw_S q1375 q1376 q179 q1377) 2 hdS_J12_floorDiv ⟨rfl, rfl⟩ ⟨Nat.le_of_ble_eq_true rfl, Nat.le_of_ble_eq_true rfl⟩ rfl hl.1 rfl (Nat.le_of_ble_eq_true rfl) hB dX16_two_56) hI (fun r2 σ1 H locs hT hI => ?_)
      refine W.eq (g2 := F0 m 59 ls [.long r2]) rfl ?_
      exact hret _ _ _ _ _ _ _ _ hT hI hB dX16_two_59
    · replace hT := hT.2 hc
      refine lv_lconst (v := 0) hx hb dX16_two_50 (by decide) ?_
      refine lv_goto (tgt := 59) hx hb dX16_two_51 (by decide) ?_
      exact hret _ _ _ _ _ _ _ _ hT hI hB dX16_two_59
  replace hT := hT.2 c2
  by_cases c3 : x0 = 45
  · replace hT := hT.1 c3
    refine lv_tableIn (tgt := 36) hx hb dX16_two_1 (by rw [c3]; decide) (by rw [c3]; decide) (by rw [c3]; rfl) (by decide) ?_
    refine lv_lload_n hx hb dX16_two_36 rfl (lv_at hl 1 rfl) ?_
    refine lv_lload_n hx hb dX16_two_37 rfl (lv_at hl 2 rfl) ?_
    refine lv_lsub hx hb dX16_two_38 ?_
    exact hret _ _ _ _ _ _ _ _ hT hI hB dX16_two_39
  replace hT := hT.2 c3
  refine lv_tableOut (tgt := 44) hx hb dX16_two_1 (ts_outn 42 (n := 4) (by decide) (fun k hk => by rcases (show k = 0 ∨ k = 1 ∨ k = 2 ∨ k = 3 by omega) with rfl | rfl | rfl | rfl <;> assumption)) (by decide) ?_
  refine lv_lload_n hx hb dX16_two_44 rfl (lv_at hl 2 rfl) ?_
  refine lv_lconst (v := 0) hx hb dX16_two_45 (by decide) ?_
  refine rl_ne (tgt := 54) hx hb dX16_two_46 dX16_two_47 (by decide) (fun hc => ?_) (fun hc => ?_)
  · replace hT := hT.1 hc
    refine lv_lload_n hx hb dX16_two_54 rfl (lv_at hl 1 rfl) ?_
    refine lv_lload_n hx hb dX16_two_55 rfl (lv_at hl 2 rfl) ?_
    refine x_call (x_runS hC hI (um_J12_floorDiv l D dA ad n0 Hs hC.2.2 σ x1 x3 _ hT) (lw_S q1375 q1376 q179 q1377) 2 hdS_J12_floorDiv ⟨rfl, rfl⟩ ⟨Nat.le_of_ble_eq_true rfl, Nat.le_of_ble_eq_true rfl⟩ rfl hl.1 rfl (Nat.le_of_ble_eq_true rfl) hB dX16_two_56) hI (fun r4 σ3 H locs hT hI => ?_)
    refine W.eq (g2 := F0 m 59 ls [.long r4]) rfl ?_
    exact hret _ _ _ _ _ _ _ _ hT hI hB dX16_two_59
  · replace hT := hT.2 hc
    refine lv_lconst (v := 0) hx hb dX16_two_50 (by decide) ?_
    refine lv_goto (tgt := 59) hx hb dX16_two_51 (by decide) ?_
    exact hret _ _ _ _ _ _ _ _ hT hI hB dX16_two_59
set_option maxHeartbeats 4000000 in
set_option maxRecDepth 100000 in
theorem um_X0_held (l : Launch) (D : va_G) (dA : Nat → ClassId) (ad : Nat → Nat) (n0 : Nat) (Hs : Heap) (hA : cAd ad n0 Hs.size) (σ : CS) (x0 : Int64) (K : Int64 → CS → Prop) (hT : U_X0_held σ x0 K) : Met l yX0_held (ws_ yX0_held cX0_held 2 (some .long)) ({ frames := 2, cells := 0, slots := 0, locals := 35 }) (va_Pc [.long x0] (cU D dA ad n0 Hs σ)) (xQ rvL K (cU D dA ad n0 Hs) (cA ad)) 0 0 (cA ad) := by
  refine xm_l hA (by decide) rfl (Nat.le_of_ble_eq_true rfl) ?_
  intro p e s m args below meth c Q hC hN hret hI ls hl
  have hx := hC.1.1
  have hb := hC.1.2.1
  have hB : 0 ≤ 0 ∧ 0 ≤ 0 := ⟨Nat.zero_le _, Nat.zero_le _⟩
  have hl : lv_has ls 2 [(0, .long x0)] := hl
  unfold U_X0_held at hT
  refine lv_ldc2 hx hb hC.1.2.2.2.1 (hC.1.2.2.2.2 _ q1326) dX0_held_0 ?_
  refine lv_ldc2 hx hb hC.1.2.2.2.1 (hC.1.2.2.2.2 _ q1327) dX0_held_3 ?_
  refine lv_lload_n hx hb dX0_held_6 rfl (lv_at hl 0 rfl) ?_
  refine x_call (x_runS hC hI (um_J12_min_2 l D dA ad n0 Hs hC.2.2 σ 1000000 x0 _ hT) (lw_S q1328 q1329 q179 q1330) 2 hdS_J12_min_2 ⟨rfl, rfl⟩ ⟨Nat.le_of_ble_eq_true rfl, Nat.le_of_ble_eq_true rfl⟩ rfl hl.1 rfl (Nat.le_of_ble_eq_true rfl) hB dX0_held_7) hI (fun r2 σ1 H locs hT hI => ?_)
  refine W.eq (g2 := F0 m 10 ls [.long r2, .long (-1000000)]) rfl ?_
  refine x_call (x_runS hC hI (um_J12_max_2 l D dA ad n0 Hs hC.2.2 σ1 (-1000000) r2 _ hT) (lw_S q1331 q1332 q179 q1333) 2 hdS_J12_max_2 ⟨rfl, rfl⟩ ⟨Nat.le_of_ble_eq_true rfl, Nat.le_of_ble_eq_true rfl⟩ rfl hl.1 rfl (Nat.le_of_ble_eq_true rfl) hB dX0_held_10) hI (fun r4 σ3 H locs hT hI => ?_)
  refine W.eq (g2 := F0 m 13 ls [.long r4]) rfl ?_
  exact hret _ _ _ _ _ _ _ _ hT hI hB dX0_held_13
set_option maxHeartbeats 4000000 in
set_option maxRecDepth 100000 in
theorem um_X7_find (l : Launch) (D : va_G) (dA : Nat → ClassId) (ad : Nat → Nat) (n0 : Nat) (Hs : Heap) (hA : cAd ad n0 Hs.size) (σ : CS) (x0 : Nat) (x1 : Nat) (K : Int32 → CS → Prop) (hT : U_X7_find σ x0 x1 K) : Met l yX7_find (ws_ yX7_find cX7_find 3 (some .int)) ({ frames := 4, cells := 0, slots := 0, locals := 76 }) (va_Pc [.ref (ad x0), .ref (ad x1)] (cU D dA ad n0 Hs σ)) (xQ rvI K (cU D dA ad n0 Hs) (cA ad)) 0 0 (cA ad) := by
  refine xm_i hA (by decide) rfl (Nat.le_of_ble_eq_true rfl) ?_
  intro p e s m args below meth c Q hC hN hret hI ls hl
  have hx := hC.1.1
  have hb := hC.1.2.1
  have hB : 0 ≤ 0 ∧ 0 ≤ 0 := ⟨Nat.zero_le _, Nat.zero_le _⟩
  have hl : lv_has ls 3 [(0, .ref (ad x0)), (1, .ref (ad x1))] := hl
  have w_2 : ∀ (n : Nat) (x2 : Int32) (σ : CS) (H : Heap) (locs : List Loc) (ls : Array Slot), U_X7_find_2 K x0 x1 n x2 σ → xI D dA ad n0 Hs s.heap σ H locs → lv_has ls 3 [(0, .ref (ad x0)), (1, .ref (ad x1)), (2, .int x2)] → W p l e ({ frames := 4, cells := 0, slots := 0, locals := 76 }) s m args below meth c H locs 0 0 Q (F0 m 2 ls []) := by
    intro n
    induction n with
    | zero => intro x2 σ H locs ls hT; exact hT.elim
    | succ n ih =>
      intro x2 σ H locs ls hT hI hl
      unfold U_X7_find_2 at hT
      refine lv_iload_n hx hb dX7_find_2 rfl (lv_at hl 2 rfl) ?_
      refine lv_aload_n hx hb dX7_find_3 rfl (lv_at hl 0 rfl) ?_
      obtain ⟨hL, hT⟩ := hT
      refine x_call5 (x_runF (i := x0) hC hI hL rfl (um_J2_size l D dA ad n0 Hs hC.2.2 σ x0 _ hT) (lw_app (a := [.methodLink _ _ _, .selects _ _ _, .instanceMethod _, .initialized _]) (lw4 q779 q744 q746 q162) (lw_meth q748)) hC.2.1.2.2.2.1.1 0 hdF_J2_size ⟨rfl, rfl⟩ ⟨Nat.le_of_ble_eq_true rfl, Nat.le_of_ble_eq_true rfl⟩ rfl hl.1 rfl (Nat.le_of_ble_eq_true rfl) hB dX7_find_4) hI (fun r2 σ1 H locs hT hI => ?_)
      refine W.eq (g2 := F0 m 9 ls [.int r2, .int x2]) rfl ?_
      refine lv_icmp_ge (tgt := 40) hx hb dX7_find_9 (by decide) (fun hc => ?_) (fun hc => ?_)
      · replace hT := hT.1 hc
        refine lv_iconst (v := -1) hx hb dX7_find_40 (by decide) ?_
        exact hret _ _ _ _ _ _ _ _ hT hI hB dX7_find_41
      · replace hT := hT.2 hc
        refine lv_aload_n hx hb dX7_find_12 rfl (lv_at hl 0 rfl) ?_
        refine lv_iload_n hx hb dX7_find_13 rfl (lv_at hl 2 rfl) ?_
        obtain ⟨hL, hT⟩ := hT
        refine x_call5 (x_runF (i := x0) hC hI hL rfl (um_J2_get l D dA ad n0 Hs hC.2.2 σ1 x0 x2 _ hT) (lw_app (a := [.methodLink _ _ _, .selects _ _ _, .instanceMethod _, .initialized _]) (lw4 q781 q784 q786 q162) (lw_meth q788)) hC.2.1.2.2.2.1.2.1 1 hdF_J2_get ⟨rfl, rfl⟩ ⟨Nat.le_of_ble_eq_true rfl, Nat.le_of_ble_eq_true rfl⟩ rfl hl.1 rfl (Nat.le_of_ble_eq_true rfl) hB dX7_find_14) hI (fun r4 σ3 H locs hT hI => ?_)
        refine W.eq (g2 := F0 m 19 ls [va_rf (rgR ad r4)]) rfl ?_
        obtain ⟨q5, hqe_q5, hT_q5⟩ := hT
        have hl_q5 := hl
        subst hqe_q5
        replace hT := hT_q5
        refine W.eq (g2 := F0 m 19 ls [.ref (ad q5)]) rfl ?_
        have hl : lv_has ls 3 [(0, .ref (ad x0)), (1, .ref (ad x1)), (2, .int x2)] := hl_q5
        obtain ⟨hL, hT⟩ := hT
        refine x_cast0 (q := q5) hC hI hL q799 dX7_find_19 ?_
        obtain ⟨hL, hT⟩ := hT
        refine xgNm hC hI hL q837 dX7_find_22 ?_
        refine lv_aload_n hx hb dX7_find_25 rfl (lv_at hl 1 rfl) ?_
        obtain ⟨q6, hq7, hT⟩ := hT
        refine W.eq (congrArg (fun z => F0 m 26 ls [.ref (ad x1), z]) (xrq hq7)) ?_
        obtain ⟨hL, hT⟩ := hT
        refine x_call (x_runV (i := q6) hC hI hL rfl (um_J6_equals l D dA ad n0 Hs hC.2.2 σ3 q6 x1 _ hT) (lw_V q800 q731 q732 q171 q733) 1 hdV_J6_equals ⟨rfl, rfl⟩ ⟨Nat.le_of_ble_eq_true rfl, Nat.le_of_ble_eq_true rfl⟩ rfl hl.1 rfl (Nat.le_of_ble_eq_true rfl) hB dX7_find_26) hI (fun r9 σ8 H locs hT hI => ?_)
        refine W.eq (g2 := F0 m 29 ls [.int r9]) rfl ?_
        refine lv_if_eq (tgt := 34) hx hb dX7_find_29 (by decide) (fun hc => ?_) (fun hc => ?_)
        · replace hT := hT.1 hc
          refine lv_iinc (v := x2 + 1) (lv' := [(2, .int (x2 + 1)), (0, .ref (ad x0)), (1, .ref (ad x1))]) hx hb dX7_find_34 hl (k := 2) rfl rfl (Nat.le_of_ble_eq_true rfl) rfl (fun ls hl => ?_)
          refine lv_goto (tgt := 2) hx hb dX7_find_37 (by decide) ?_
          exact ih (x2 + 1) σ8 _ _ _ hT hI (lv_sub hl [1, 2, 0] rfl)
        · replace hT := hT.2 hc
          refine lv_iload_n hx hb dX7_find_32 rfl (lv_at hl 2 rfl) ?_
          exact hret _ _ _ _ _ _ _ _ hT hI hB dX7_find_33
  unfold U_X7_find at hT
  refine lv_iconst (v := 0) hx hb dX7_find_0 (by decide) ?_
  refine lv_istore_n (lv' := [(2, .int 0), (0, .ref (ad x0)), (1, .ref (ad x1))]) hx hb dX7_find_1 rfl hl (Nat.le_of_ble_eq_true rfl) rfl (fun ls hl => ?_)
  obtain ⟨n2, hT⟩ := hT
  exact w_2 n2 0 σ _ _ _ hT hI (lv_sub hl [1, 2, 0] rfl)
set_option maxHeartbeats 4000000 in
set_option maxRecDepth 100000 in
theorem um_X1_isNamed (l : Launch) (D : va_G) (dA : Nat → ClassId) (ad : Nat → Nat) (n0 : Nat) (Hs : Heap) (hA : cAd ad n0 Hs.size) (σ : CS) (ob : Nat) (x1 : Nat) (K : Int32 → CS → Prop) (hT : U_X1_isNamed σ ob x1 K) : Met l yX1_isNamed (ws_ yX1_isNamed cX1_isNamed 2 (some .boolean)) ({ frames := 5, cells := 0, slots := 0, locals := 98 }) (va_Pc [.ref (ad ob), .ref (ad x1)] (cU D dA ad n0 Hs σ)) (xQ rvI K (cU D dA ad n0 Hs) (cA ad)) 0 0 (cA ad) := by
  refine xm_z hA (by decide) rfl (Nat.le_of_ble_eq_true rfl) ?_
  intro p e s m args below meth c Q hC hN hret hI ls hl
  have hx := hC.1.1
  have hb := hC.1.2.1
  have hB : 0 ≤ 0 ∧ 0 ≤ 0 := ⟨Nat.zero_le _, Nat.zero_le _⟩
  have hl : lv_has ls 2 [(0, .ref (ad ob)), (1, .ref (ad x1))] := hl
  unfold U_X1_isNamed at hT
  refine lv_aload_n hx hb dX1_isNamed_0 rfl (lv_at hl 0 rfl) ?_
  obtain ⟨hL, hT⟩ := hT
  refine xg1_2 (i := ob) hC hI hL q245 (fun _ h => h) dX1_isNamed_1 ?_
  refine lv_aload_n hx hb dX1_isNamed_4 rfl (lv_at hl 1 rfl) ?_
  obtain ⟨q1, hq2, hT⟩ := hT
  refine W.eq (congrArg (fun z => F0 m 5 ls [.ref (ad x1), z]) (xrq hq2)) ?_
  refine x_call (x_runS hC hI (um_X7_find l D dA ad n0 Hs hC.2.2 σ q1 x1 _ hT) (lw_S q775 q776 q176 q777) 2 hdS_X7_find ⟨rfl, rfl⟩ ⟨Nat.le_of_ble_eq_true rfl, Nat.le_of_ble_eq_true rfl⟩ rfl hl.1 rfl (Nat.le_of_ble_eq_true rfl) hB dX1_isNamed_5) hI (fun r4 σ3 H locs hT hI => ?_)
  refine W.eq (g2 := F0 m 8 ls [.int r4]) rfl ?_
  refine lv_iconst (v := -1) hx hb dX1_isNamed_8 (by decide) ?_
  refine lv_icmp_ne (tgt := 36) hx hb dX1_isNamed_9 (by decide) (fun hc => ?_) (fun hc => ?_)
  · replace hT := hT.1 hc
    refine lv_iconst (v := 1) hx hb dX1_isNamed_36 (by decide) ?_
    refine lv_goto (tgt := 41) hx hb dX1_isNamed_37 (by decide) ?_
    exact hret _ _ _ _ _ _ _ _ rfl hT hI hB dX1_isNamed_41
  · replace hT := hT.2 hc
    refine lv_aload_n hx hb dX1_isNamed_12 rfl (lv_at hl 0 rfl) ?_
    obtain ⟨hL, hT⟩ := hT
    refine xg1_3 (i := ob) hC hI hL q248 (fun _ h => h) dX1_isNamed_13 ?_
    refine lv_aload_n hx hb dX1_isNamed_16 rfl (lv_at hl 1 rfl) ?_
    obtain ⟨q5, hq6, hT⟩ := hT
    refine W.eq (congrArg (fun z => F0 m 17 ls [.ref (ad x1), z]) (xrq hq6)) ?_
    refine x_call (x_runS hC hI (um_X7_find l D dA ad n0 Hs hC.2.2 σ3 q5 x1 _ hT) (lw_S q775 q776 q176 q777) 2 hdS_X7_find ⟨rfl, rfl⟩ ⟨Nat.le_of_ble_eq_true rfl, Nat.le_of_ble_eq_true rfl⟩ rfl hl.1 rfl (Nat.le_of_ble_eq_true rfl) hB dX1_isNamed_17) hI (fun r8 σ7 H locs hT hI => ?_)
    refine W.eq (g2 := F0 m 20 ls [.int r8]) rfl ?_
    refine lv_iconst (v := -1) hx hb dX1_isNamed_20 (by decide) ?_
    refine lv_icmp_ne (tgt := 36) hx hb dX1_isNamed_21 (by decide) (fun hc => ?_) (fun hc => ?_)
    · replace hT := hT.1 hc
      refine lv_iconst (v := 1) hx hb dX1_isNamed_36 (by decide) ?_
      refine lv_goto (tgt := 41) hx hb dX1_isNamed_37 (by decide) ?_
      exact hret _ _ _ _ _ _ _ _ rfl hT hI hB dX1_isNamed_41
    · replace hT := hT.2 hc
      refine lv_aload_n hx hb dX1_isNamed_24 rfl (lv_at hl 0 rfl) ?_
      obtain ⟨hL, hT⟩ := hT
      refine xg1_4 (i := ob) hC hI hL q251 (fun _ h => h) dX1_isNamed_25 ?_
      refine lv_aload_n hx hb dX1_isNamed_28 rfl (lv_at hl 1 rfl) ?_
      obtain ⟨q9, hq10, hT⟩ := hT
      refine W.eq (congrArg (fun z => F0 m 29 ls [.ref (ad x1), z]) (xrq hq10)) ?_
      refine x_call (x_runS hC hI (um_X7_find l D dA ad n0 Hs hC.2.2 σ7 q9 x1 _ hT) (lw_S q775 q776 q176 q777) 2 hdS_X7_find ⟨rfl, rfl⟩ ⟨Nat.le_of_ble_eq_true rfl, Nat.le_of_ble_eq_true rfl⟩ rfl hl.1 rfl (Nat.le_of_ble_eq_true rfl) hB dX1_isNamed_29) hI (fun r12 σ11 H locs hT hI => ?_)
      refine W.eq (g2 := F0 m 32 ls [.int r12]) rfl ?_
      refine lv_iconst (v := -1) hx hb dX1_isNamed_32 (by decide) ?_
      refine lv_icmp_eq (tgt := 40) hx hb dX1_isNamed_33 (by decide) (fun hc => ?_) (fun hc => ?_)
      · replace hT := hT.1 hc
        refine lv_iconst (v := 0) hx hb dX1_isNamed_40 (by decide) ?_
        exact hret _ _ _ _ _ _ _ _ rfl hT hI hB dX1_isNamed_41
      · replace hT := hT.2 hc
        refine lv_iconst (v := 1) hx hb dX1_isNamed_36 (by decide) ?_
        refine lv_goto (tgt := 41) hx hb dX1_isNamed_37 (by decide) ?_
        exact hret _ _ _ _ _ _ _ _ rfl hT hI hB dX1_isNamed_41
set_option maxHeartbeats 4000000 in
set_option maxRecDepth 100000 in
theorem um_X7_letter (l : Launch) (D : va_G) (dA : Nat → ClassId) (ad : Nat → Nat) (n0 : Nat) (Hs : Heap) (hA : cAd ad n0 Hs.size) (σ : CS) (ob : Nat) (x1 : Int32) (K : Int32 → CS → Prop) (hT : U_X7_letter σ ob x1 K) : Met l yX7_letter (ws_ yX7_letter cX7_letter 2 (some .int)) ({ frames := 5, cells := 0, slots := 0, locals := 97 }) (va_Pc [.ref (ad ob), .int x1] (cU D dA ad n0 Hs σ)) (xQ rvI K (cU D dA ad n0 Hs) (cA ad)) 0 0 (cA ad) := by
  refine xm_i hA (by decide) rfl (Nat.le_of_ble_eq_true rfl) ?_
  intro p e s m args below meth c Q hC hN hret hI ls hl
  have hx := hC.1.1
  have hb := hC.1.2.1
  have hB : 0 ≤ 0 ∧ 0 ≤ 0 := ⟨Nat.zero_le _, Nat.zero_le _⟩
  have hl : lv_has ls 2 [(0, .ref (ad ob)), (1, .int x1)] := hl
  unfold U_X7_letter at hT
  refine lv_iload_n hx hb dX7_letter_0 rfl (lv_at hl 1 rfl) ?_
  refine lv_aload_n hx hb dX7_letter_1 rfl (lv_at hl 0 rfl) ?_
  obtain ⟨hL, hT⟩ := hT
  refine xgNm hC hI hL q837 dX7_letter_2 ?_
  obtain ⟨q1, hq2, hT⟩ := hT
  refine W.eq (congrArg (fun z => F0 m 5 ls [z, .int x1]) (xrq hq2)) ?_
  obtain ⟨hL, hT⟩ := hT
  refine x_call (x_runV (i := q1) hC hI hL rfl (um_J6_length l D dA ad n0 Hs hC.2.2 σ q1 _ hT) (lw_V q1407 q764 q765 q171 q766) 0 hdV_J6_length ⟨rfl, rfl⟩ ⟨Nat.le_of_ble_eq_true rfl, Nat.le_of_ble_eq_true rfl⟩ rfl hl.1 rfl (Nat.le_of_ble_eq_true rfl) hB dX7_letter_5) hI (fun r4 σ3 H locs hT hI => ?_)
  refine W.eq (g2 := F0 m 8 ls [.int r4, .int x1]) rfl ?_
  refine lv_icmp_ge (tgt := 27) hx hb dX7_letter_8 (by decide) (fun hc => ?_) (fun hc => ?_)
  · replace hT := hT.1 hc
    refine lv_iconst (v := 0) hx hb dX7_letter_27 (by decide) ?_
    exact hret _ _ _ _ _ _ _ _ hT hI hB dX7_letter_28
  · replace hT := hT.2 hc
    refine lv_aload_n hx hb dX7_letter_11 rfl (lv_at hl 0 rfl) ?_
    obtain ⟨hL, hT⟩ := hT
    refine xgNm hC hI hL q837 dX7_letter_12 ?_
    refine lv_iload_n hx hb dX7_letter_15 rfl (lv_at hl 1 rfl) ?_
    obtain ⟨q5, hq6, hT⟩ := hT
    refine W.eq (congrArg (fun z => F0 m 16 ls [.int x1, z]) (xrq hq6)) ?_
    obtain ⟨hL, hT⟩ := hT
    refine x_call (x_runV (i := q5) hC hI hL rfl (um_J6_charAt l D dA ad n0 Hs hC.2.2 σ3 q5 x1 _ hT) (lw_V q1408 q1409 q1410 q171 q1411) 1 hdV_J6_charAt ⟨rfl, rfl⟩ ⟨Nat.le_of_ble_eq_true rfl, Nat.le_of_ble_eq_true rfl⟩ rfl hl.1 rfl (Nat.le_of_ble_eq_true rfl) hB dX7_letter_16) hI (fun r8 σ7 H locs hT hI => ?_)
    refine W.eq (g2 := F0 m 19 ls [.int r8]) rfl ?_
    refine lv_bipush (v := 97) hx hb dX7_letter_19 (by decide) ?_
    refine lv_isub hx hb dX7_letter_21 ?_
    refine lv_iconst (v := 1) hx hb dX7_letter_22 (by decide) ?_
    refine lv_iadd hx hb dX7_letter_23 ?_
    refine lv_goto (tgt := 28) hx hb dX7_letter_24 (by decide) ?_
    exact hret _ _ _ _ _ _ _ _ hT hI hB dX7_letter_28
set_option maxHeartbeats 4000000 in
set_option maxRecDepth 100000 in
theorem um_X0_isLetter (l : Launch) (D : va_G) (dA : Nat → ClassId) (ad : Nat → Nat) (n0 : Nat) (Hs : Heap) (hA : cAd ad n0 Hs.size) (σ : CS) (x0 : Int32) (K : Int32 → CS → Prop) (hT : U_X0_isLetter σ x0 K) : Met l yX0_isLetter (ws_ yX0_isLetter cX0_isLetter 1 (some .boolean)) ({ frames := 1, cells := 0, slots := 0, locals := 12 }) (va_Pc [.int x0] (cU D dA ad n0 Hs σ)) (xQ rvI K (cU D dA ad n0 Hs) (cA ad)) 0 0 (cA ad) := by
  refine xm_z hA (by decide) rfl (Nat.le_of_ble_eq_true rfl) ?_
  intro p e s m args below meth c Q hC hN hret hI ls hl
  have hx := hC.1.1
  have hb := hC.1.2.1
  have hB : 0 ≤ 0 ∧ 0 ≤ 0 := ⟨Nat.zero_le _, Nat.zero_le _⟩
  have hl : lv_has ls 1 [(0, .int x0)] := hl
  unfold U_X0_isLetter at hT
  refine lv_iload_n hx hb dX0_isLetter_0 rfl (lv_at hl 0 rfl) ?_
  refine lv_bipush (v := 97) hx hb dX0_isLetter_1 (by decide) ?_
  refine lv_icmp_lt (tgt := 16) hx hb dX0_isLetter_3 (by decide) (fun hc => ?_) (fun hc => ?_)
  · replace hT := hT.1 hc
    refine lv_iconst (v := 0) hx hb dX0_isLetter_16 (by decide) ?_
    exact hret _ _ _ _ _ _ _ _ rfl hT hI hB dX0_isLetter_17
  · replace hT := hT.2 hc
    refine lv_iload_n hx hb dX0_isLetter_6 rfl (lv_at hl 0 rfl) ?_
    refine lv_bipush (v := 122) hx hb dX0_isLetter_7 (by decide) ?_
    refine lv_icmp_gt (tgt := 16) hx hb dX0_isLetter_9 (by decide) (fun hc => ?_) (fun hc => ?_)
    · replace hT := hT.1 hc
      refine lv_iconst (v := 0) hx hb dX0_isLetter_16 (by decide) ?_
      exact hret _ _ _ _ _ _ _ _ rfl hT hI hB dX0_isLetter_17
    · replace hT := hT.2 hc
      refine lv_iconst (v := 1) hx hb dX0_isLetter_12 (by decide) ?_
      refine lv_goto (tgt := 17) hx hb dX0_isLetter_13 (by decide) ?_
      exact hret _ _ _ _ _ _ _ _ rfl hT hI hB dX0_isLetter_17
set_option maxHeartbeats 4000000 in
set_option maxRecDepth 100000 in
theorem um_X0_isDigit (l : Launch) (D : va_G) (dA : Nat → ClassId) (ad : Nat → Nat) (n0 : Nat) (Hs : Heap) (hA : cAd ad n0 Hs.size) (σ : CS) (x0 : Int32) (K : Int32 → CS → Prop) (hT : U_X0_isDigit σ x0 K) : Met l yX0_isDigit (ws_ yX0_isDigit cX0_isDigit 1 (some .boolean)) ({ frames := 1, cells := 0, slots := 0, locals := 12 }) (va_Pc [.int x0] (cU D dA ad n0 Hs σ)) (xQ rvI K (cU D dA ad n0 Hs) (cA ad)) 0 0 (cA ad) := by
  refine xm_z hA (by decide) rfl (Nat.le_of_ble_eq_true rfl) ?_
  intro p e s m args below meth c Q hC hN hret hI ls hl
  have hx := hC.1.1
  have hb := hC.1.2.1
  have hB : 0 ≤ 0 ∧ 0 ≤ 0 := ⟨Nat.zero_le _, Nat.zero_le _⟩
  have hl : lv_has ls 1 [(0, .int x0)] := hl
  unfold U_X0_isDigit at hT
  refine lv_iload_n hx hb dX0_isDigit_0 rfl (lv_at hl 0 rfl) ?_
  refine lv_bipush (v := 48) hx hb dX0_isDigit_1 (by decide) ?_
  refine lv_icmp_lt (tgt := 16) hx hb dX0_isDigit_3 (by decide) (fun hc => ?_) (fun hc => ?_)
  · replace hT := hT.1 hc
    refine lv_iconst (v := 0) hx hb dX0_isDigit_16 (by decide) ?_
    exact hret _ _ _ _ _ _ _ _ rfl hT hI hB dX0_isDigit_17
  · replace hT := hT.2 hc
    refine lv_iload_n hx hb dX0_isDigit_6 rfl (lv_at hl 0 rfl) ?_
    refine lv_bipush (v := 57) hx hb dX0_isDigit_7 (by decide) ?_
    refine lv_icmp_gt (tgt := 16) hx hb dX0_isDigit_9 (by decide) (fun hc => ?_) (fun hc => ?_)
    · replace hT := hT.1 hc
      refine lv_iconst (v := 0) hx hb dX0_isDigit_16 (by decide) ?_
      exact hret _ _ _ _ _ _ _ _ rfl hT hI hB dX0_isDigit_17
    · replace hT := hT.2 hc
      refine lv_iconst (v := 1) hx hb dX0_isDigit_12 (by decide) ?_
      refine lv_goto (tgt := 17) hx hb dX0_isDigit_13 (by decide) ?_
      exact hret _ _ _ _ _ _ _ _ rfl hT hI hB dX0_isDigit_17
set_option maxHeartbeats 4000000 in
set_option maxRecDepth 100000 in
theorem um_X0_find (l : Launch) (D : va_G) (dA : Nat → ClassId) (ad : Nat → Nat) (n0 : Nat) (Hs : Heap) (hA : cAd ad n0 Hs.size) (σ : CS) (x0 : Nat) (x1 : Nat) (K : Int32 → CS → Prop) (hT : U_X0_find σ x0 x1 K) : Met l yX0_find (ws_ yX0_find cX0_find 3 (some .int)) ({ frames := 3, cells := 0, slots := 0, locals := 56 }) (va_Pc [.ref (ad x0), .ref (ad x1)] (cU D dA ad n0 Hs σ)) (xQ rvI K (cU D dA ad n0 Hs) (cA ad)) 0 0 (cA ad) := by
  refine xm_i hA (by decide) rfl (Nat.le_of_ble_eq_true rfl) ?_
  intro p e s m args below meth c Q hC hN hret hI ls hl
  have hx := hC.1.1
  have hb := hC.1.2.1
  have hB : 0 ≤ 0 ∧ 0 ≤ 0 := ⟨Nat.zero_le _, Nat.zero_le _⟩
  have hl : lv_has ls 3 [(0, .ref (ad x0)), (1, .ref (ad x1))] := hl
  have w_2 : ∀ (n : Nat) (x2 : Int32) (σ : CS) (H : Heap) (locs : List Loc) (ls : Array Slot), U_X0_find_2 K x0 x1 n x2 σ → xI D dA ad n0 Hs s.heap σ H locs → lv_has ls 3 [(0, .ref (ad x0)), (1, .ref (ad x1)), (2, .int x2)] → W p l e ({ frames := 3, cells := 0, slots := 0, locals := 56 }) s m args below meth c H locs 0 0 Q (F0 m 2 ls []) := by
    intro n
    induction n with
    | zero => intro x2 σ H locs ls hT; exact hT.elim
    | succ n ih =>
      intro x2 σ H locs ls hT hI hl
      unfold U_X0_find_2 at hT
      refine lv_iload_n hx hb dX0_find_2 rfl (lv_at hl 2 rfl) ?_
      refine lv_aload_n hx hb dX0_find_3 rfl (lv_at hl 1 rfl) ?_
      obtain ⟨hL, hT⟩ := hT
      refine x_alen (i := x1) hC hI hL (by decide) dX0_find_4 ?_
      refine lv_icmp_ge (tgt := 26) hx hb dX0_find_5 (by decide) (fun hc => ?_) (fun hc => ?_)
      · replace hT := hT.1 hc
        refine lv_iconst (v := -1) hx hb dX0_find_26 (by decide) ?_
        exact hret _ _ _ _ _ _ _ _ hT hI hB dX0_find_27
      · replace hT := hT.2 hc
        refine lv_aload_n hx hb dX0_find_8 rfl (lv_at hl 1 rfl) ?_
        refine lv_iload_n hx hb dX0_find_9 rfl (lv_at hl 2 rfl) ?_
        obtain ⟨hL, hT⟩ := hT
        refine x_aald (i := x1) hC hI hL rfl rfl (by decide) hT dX0_find_10 (fun hT => ?_)
        refine lv_aload_n hx hb dX0_find_11 rfl (lv_at hl 0 rfl) ?_
        obtain ⟨q1, hq2, hT⟩ := hT
        refine W.eq (congrArg (fun z => F0 m 12 ls [.ref (ad x0), z]) (xrq hq2)) ?_
        obtain ⟨hL, hT⟩ := hT
        refine x_call (x_runV (i := q1) hC hI hL rfl (um_J6_equals l D dA ad n0 Hs hC.2.2 σ q1 x0 _ hT) (lw_V q762 q731 q732 q171 q733) 1 hdV_J6_equals ⟨rfl, rfl⟩ ⟨Nat.le_of_ble_eq_true rfl, Nat.le_of_ble_eq_true rfl⟩ rfl hl.1 rfl (Nat.le_of_ble_eq_true rfl) hB dX0_find_12) hI (fun r4 σ3 H locs hT hI => ?_)
        refine W.eq (g2 := F0 m 15 ls [.int r4]) rfl ?_
        refine lv_if_eq (tgt := 20) hx hb dX0_find_15 (by decide) (fun hc => ?_) (fun hc => ?_)
        · replace hT := hT.1 hc
          refine lv_iinc (v := x2 + 1) (lv' := [(2, .int (x2 + 1)), (0, .ref (ad x0)), (1, .ref (ad x1))]) hx hb dX0_find_20 hl (k := 2) rfl rfl (Nat.le_of_ble_eq_true rfl) rfl (fun ls hl => ?_)
          refine lv_goto (tgt := 2) hx hb dX0_find_23 (by decide) ?_
          exact ih (x2 + 1) σ3 _ _ _ hT hI (lv_sub hl [1, 2, 0] rfl)
        · replace hT := hT.2 hc
          refine lv_iload_n hx hb dX0_find_18 rfl (lv_at hl 2 rfl) ?_
          exact hret _ _ _ _ _ _ _ _ hT hI hB dX0_find_19
  unfold U_X0_find at hT
  refine lv_iconst (v := 0) hx hb dX0_find_0 (by decide) ?_
  refine lv_istore_n (lv' := [(2, .int 0), (0, .ref (ad x0)), (1, .ref (ad x1))]) hx hb dX0_find_1 rfl hl (Nat.le_of_ble_eq_true rfl) rfl (fun ls hl => ?_)
  obtain ⟨n2, hT⟩ := hT
  exact w_2 n2 0 σ _ _ _ hT hI (lv_sub hl [1, 2, 0] rfl)
set_option maxHeartbeats 4000000 in
set_option maxRecDepth 100000 in
theorem um_X0_is (l : Launch) (D : va_G) (dA : Nat → ClassId) (ad : Nat → Nat) (n0 : Nat) (Hs : Heap) (hA : cAd ad n0 Hs.size) (σ : CS) (x0 : Int32) (x1 : Int32) (x2 : Int32) (K : Int32 → CS → Prop) (hT : U_X0_is σ x0 x1 x2 K) : Met l yX0_is (ws_ yX0_is cX0_is 3 (some .boolean)) ({ frames := 1, cells := 0, slots := 0, locals := 12 }) (va_Pc [.int x0, .int x1, .int x2] (cU D dA ad n0 Hs σ)) (xQ rvI K (cU D dA ad n0 Hs) (cA ad)) 0 0 (cA ad) := by
  refine xm_z hA (by decide) rfl (Nat.le_of_ble_eq_true rfl) ?_
  intro p e s m args below meth c Q hC hN hret hI ls hl
  have hx := hC.1.1
  have hb := hC.1.2.1
  have hB : 0 ≤ 0 ∧ 0 ≤ 0 := ⟨Nat.zero_le _, Nat.zero_le _⟩
  have hl : lv_has ls 3 [(0, .int x0), (1, .int x1), (2, .int x2)] := hl
  unfold U_X0_is at hT
  refine lv_iload_n hx hb dX0_is_0 rfl (lv_at hl 0 rfl) ?_
  refine lv_iload_n hx hb dX0_is_1 rfl (lv_at hl 1 rfl) ?_
  refine lv_icmp_lt (tgt := 14) hx hb dX0_is_2 (by decide) (fun hc => ?_) (fun hc => ?_)
  · replace hT := hT.1 hc
    refine lv_iconst (v := 0) hx hb dX0_is_14 (by decide) ?_
    exact hret _ _ _ _ _ _ _ _ rfl hT hI hB dX0_is_15
  · replace hT := hT.2 hc
    refine lv_iload_n hx hb dX0_is_5 rfl (lv_at hl 0 rfl) ?_
    refine lv_iload_n hx hb dX0_is_6 rfl (lv_at hl 2 rfl) ?_
    refine lv_icmp_gt (tgt := 14) hx hb dX0_is_7 (by decide) (fun hc => ?_) (fun hc => ?_)
    · replace hT := hT.1 hc
      refine lv_iconst (v := 0) hx hb dX0_is_14 (by decide) ?_
      exact hret _ _ _ _ _ _ _ _ rfl hT hI hB dX0_is_15
    · replace hT := hT.2 hc
      refine lv_iconst (v := 1) hx hb dX0_is_10 (by decide) ?_
      refine lv_goto (tgt := 15) hx hb dX0_is_11 (by decide) ?_
      exact hret _ _ _ _ _ _ _ _ rfl hT hI hB dX0_is_15
set_option maxHeartbeats 4000000 in
set_option maxRecDepth 100000 in
theorem um_X0_has (l : Launch) (D : va_G) (dA : Nat → ClassId) (ad : Nat → Nat) (n0 : Nat) (Hs : Heap) (hA : cAd ad n0 Hs.size) (σ : CS) (x0 : Int32) (x1 : Int32) (K : Int32 → CS → Prop) (hT : U_X0_has σ x0 x1 K) : Met l yX0_has (ws_ yX0_has cX0_has 2 (some .boolean)) ({ frames := 1, cells := 0, slots := 0, locals := 12 }) (va_Pc [.int x0, .int x1] (cU D dA ad n0 Hs σ)) (xQ rvI K (cU D dA ad n0 Hs) (cA ad)) 0 0 (cA ad) := by
  refine xm_z hA (by decide) rfl (Nat.le_of_ble_eq_true rfl) ?_
  intro p e s m args below meth c Q hC hN hret hI ls hl
  have hx := hC.1.1
  have hb := hC.1.2.1
  have hB : 0 ≤ 0 ∧ 0 ≤ 0 := ⟨Nat.zero_le _, Nat.zero_le _⟩
  have hl : lv_has ls 2 [(0, .int x0), (1, .int x1)] := hl
  unfold U_X0_has at hT
  refine lv_iload_n hx hb dX0_has_0 rfl (lv_at hl 0 rfl) ?_
  refine lv_iload_n hx hb dX0_has_1 rfl (lv_at hl 1 rfl) ?_
  refine lv_ishr hx hb dX0_has_2 ?_
  refine lv_iconst (v := 1) hx hb dX0_has_3 (by decide) ?_
  refine lv_iand hx hb dX0_has_4 ?_
  refine lv_iconst (v := 1) hx hb dX0_has_5 (by decide) ?_
  refine lv_icmp_ne (tgt := 13) hx hb dX0_has_6 (by decide) (fun hc => ?_) (fun hc => ?_)
  · replace hT := hT.1 hc
    refine lv_iconst (v := 0) hx hb dX0_has_13 (by decide) ?_
    exact hret _ _ _ _ _ _ _ _ rfl hT hI hB dX0_has_14
  · replace hT := hT.2 hc
    refine lv_iconst (v := 1) hx hb dX0_has_9 (by decide) ?_
    refine lv_goto (tgt := 14) hx hb dX0_has_10 (by decide) ?_
    exact hret _ _ _ _ _ _ _ _ rfl hT hI hB dX0_has_14
set_option maxHeartbeats 4000000 in
set_option maxRecDepth 100000 in
theorem um_X0_check (l : Launch) (D : va_G) (dA : Nat → ClassId) (ad : Nat → Nat) (n0 : Nat) (Hs : Heap) (hA : cAd ad n0 Hs.size) (σ : CS) (x0 : Nat) (x1 : Int32) (K : Int32 → CS → Prop) (hT : U_X0_check σ x0 x1 K) : Met l yX0_check (ws_ yX0_check cX0_check 4 (some .int)) ({ frames := 1, cells := 0, slots := 0, locals := 12 }) (va_Pc [.ref (ad x0), .int x1] (cU D dA ad n0 Hs σ)) (xQ rvI K (cU D dA ad n0 Hs) (cA ad)) 0 0 (cA ad) := by
  refine xm_i hA (by decide) rfl (Nat.le_of_ble_eq_true rfl) ?_
  intro p e s m args below meth c Q hC hN hret hI ls hl
  have hx := hC.1.1
  have hb := hC.1.2.1
  have hB : 0 ≤ 0 ∧ 0 ≤ 0 := ⟨Nat.zero_le _, Nat.zero_le _⟩
  have hl : lv_has ls 4 [(0, .ref (ad x0)), (1, .int x1)] := hl
  have w_5 : ∀ (x1 : Int32) (n : Nat) (x2 : Int32) (x3 : Int32) (σ : CS) (H : Heap) (locs : List Loc) (ls : Array Slot), U_X0_check_5 K x0 x1 n x2 x3 σ → xI D dA ad n0 Hs s.heap σ H locs → lv_has ls 4 [(0, .ref (ad x0)), (1, .int x1), (2, .int x2), (3, .int x3)] → W p l e ({ frames := 1, cells := 0, slots := 0, locals := 12 }) s m args below meth c H locs 0 0 Q (F0 m 5 ls []) := by
    intro x1 n
    induction n with
    | zero => intro x2 x3 σ H locs ls hT; exact hT.elim
    | succ n ih =>
      intro x2 x3 σ H locs ls hT hI hl
      unfold U_X0_check_5 at hT
      refine lv_iload_n hx hb dX0_check_5 rfl (lv_at hl 3 rfl) ?_
      refine lv_iload_n hx hb dX0_check_6 rfl (lv_at hl 1 rfl) ?_
      refine lv_icmp_ge (tgt := 32) hx hb dX0_check_7 (by decide) (fun hc => ?_) (fun hc => ?_)
      · replace hT := hT.1 hc
        refine lv_iload_n hx hb dX0_check_32 rfl (lv_at hl 2 rfl) ?_
        exact hret _ _ _ _ _ _ _ _ hT hI hB dX0_check_33
      · replace hT := hT.2 hc
        refine lv_iconst (v := 3) hx hb dX0_check_10 (by decide) ?_
        refine lv_iload_n hx hb dX0_check_11 rfl (lv_at hl 2 rfl) ?_
        refine lv_imul hx hb dX0_check_12 ?_
        refine lv_aload_n hx hb dX0_check_13 rfl (lv_at hl 0 rfl) ?_
        refine lv_iload_n hx hb dX0_check_14 rfl (lv_at hl 3 rfl) ?_
        obtain ⟨hL, hT⟩ := hT
        refine x_bald (i := x0) hC hI hL hT dX0_check_15 (fun hT => ?_)
        refine lv_sipush (v := 255) hx hb dX0_check_16 (by decide) ?_
        refine lv_iand hx hb dX0_check_19 ?_
        refine lv_iadd hx hb dX0_check_20 ?_
        refine lv_sipush (v := 251) hx hb dX0_check_21 (by decide) ?_
        refine lv_irem hx hb dX0_check_24 (by decide) ?_
        refine lv_topi (fun y1 h2 => ?_)
        replace hT := hT y1 h2
        refine lv_istore_n (lv' := [(2, .int y1), (0, .ref (ad x0)), (1, .int x1), (3, .int x3)]) hx hb dX0_check_25 rfl hl (Nat.le_of_ble_eq_true rfl) rfl (fun ls hl => ?_)
        refine lv_iinc (v := x3 + 1) (lv' := [(3, .int (x3 + 1)), (2, .int y1), (0, .ref (ad x0)), (1, .int x1)]) hx hb dX0_check_26 hl (k := 3) rfl rfl (Nat.le_of_ble_eq_true rfl) rfl (fun ls hl => ?_)
        refine lv_goto (tgt := 5) hx hb dX0_check_29 (by decide) ?_
        exact ih y1 (x3 + 1) σ _ _ _ hT hI (lv_sub hl [2, 3, 1, 0] rfl)
  unfold U_X0_check at hT
  refine lv_bipush (v := 113) hx hb dX0_check_0 (by decide) ?_
  refine lv_istore_n (lv' := [(2, .int 113), (0, .ref (ad x0)), (1, .int x1)]) hx hb dX0_check_2 rfl hl (Nat.le_of_ble_eq_true rfl) rfl (fun ls hl => ?_)
  refine lv_iconst (v := 0) hx hb dX0_check_3 (by decide) ?_
  refine lv_istore_n (lv' := [(3, .int 0), (2, .int 113), (0, .ref (ad x0)), (1, .int x1)]) hx hb dX0_check_4 rfl hl (Nat.le_of_ble_eq_true rfl) rfl (fun ls hl => ?_)
  obtain ⟨n5, hT⟩ := hT
  exact w_5 x1 n5 113 0 σ _ _ _ hT hI (lv_sub hl [2, 3, 1, 0] rfl)
