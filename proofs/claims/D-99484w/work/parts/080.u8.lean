theorem x_ldcSw {p : Program} {l : Launch} {e : Env} {R : Room} {s : State} {m : MethodId} {args : Array Value} {below : List Frame} {meth : Method} {c : Code} {H : Heap} {locs : List Loc} {cells slots : Nat} {Q : State → Prop} {cc : ByteArray} {nL index : Nat} {own : String} {D : va_G} {dA : Nat → ClassId} {ad : Nat → Nat} {n0 : Nat} {Hs : Heap} {pc : Nat} {ls : Array Slot} {rest : List Value} (hC : xC p m c cc nL s args own D dA ad n0 Hs) {tx : String} {q : Nat} (hm : (own, index, tx, q) ∈ strTab) (hdg : decode cc pc = .ok (.ldc_w index, 3)) (kk : W p l e R s m args below meth c H locs cells slots Q (F0 m (pc + 3) ls (.ref (ad q) :: rest))) : W p l e R s m args below meth c H locs cells slots Q (F0 m pc ls rest) := by
  have hZ := hC.2.1.2.2.2.2.1 _ hm
  intro T hT X
  obtain ⟨t, a1, b1⟩ := kk T hT X
  exact ⟨t, X.ldcStringW hC.1.1 hC.1.2.2.2.1 (text := tx) (a := ad q) hZ.1 hZ.2 (g := F0 m pc ls rest) rfl (by rw [hC.1.2.1]; exact hdg) t a1, b1⟩
def U_X2_byteAt (σ : CS) (x1 : Int32) (K : Int32 → CS → Prop) : Prop := ((x1 < 0 → (K (-1) σ)) ∧ (¬ x1 < 0 → ((((gI σ 9 1) ≤ x1 → (K (-1) σ)) ∧ (¬ (gI σ 9 1) ≤ x1 → (vp_in x1 1600 ∧ (K ((gI σ 8 (Int32.toNatClampNeg x1)) &&& 255) σ)))))))
def U_X2_here_0 (K : Int32 → CS → Prop) : Nat → CS → Prop
  | 0 => fun _ => False
  | n + 1 => fun σ => U_X2_byteAt σ (gI σ 9 2) (fun r2 σ1 => (((r2 = 32 → (∀ σ3 : CS, σ3 = wI σ1 9 2 ((gI σ1 9 2) + 1) → (U_X2_here_0 K n σ3))) ∧ (¬ r2 = 32 → (U_X2_byteAt σ1 (gI σ1 9 2) (fun r5 σ4 => (((¬ r5 = 10 → (U_X2_byteAt σ4 (gI σ4 9 2) (fun r7 σ6 => (K r7 σ6)))) ∧ (r5 = 10 → (∀ σ8 : CS, σ8 = wI σ4 9 2 ((gI σ4 9 2) + 1) → (U_X2_here_0 K n σ8)))))))))))
def U_X2_here (σ : CS) (K : Int32 → CS → Prop) : Prop := ∃ n0, U_X2_here_0 K n0 σ
def U_X2_wrong (σ : CS) (x1 : Int32) (x2 : Int32) (K : Nat → CS → Prop) : Prop := ∀ σ1 : CS, σ1 = wI σ 10 6 x1 → (∀ σ2 : CS, σ2 = wI σ1 10 7 x2 → (K 11 σ2))
def U_X2_most (σ : CS) (x1 : Int32) (x2 : Int32) (K : Unit → CS → Prop) (E : CS → Prop) : Prop := ((x1 = 0 → (K () σ)) ∧ (¬ x1 = 0 → (U_X2_wrong σ 5 x2 (fun r2 σ1 => (r2 = 11 ∧ E σ1)))))
def U_X2_parted (σ : CS) (K : Unit → CS → Prop) (E : CS → Prop) : Prop := U_X2_byteAt σ ((gI σ 9 2) - 1) (fun r2 σ1 => (U_X0_isLetter σ1 r2 (fun r4 σ3 => (((¬ r4 = 0 → (U_X2_wrong σ3 1 (gI σ3 9 2) (fun r6 σ5 => (r6 = 11 ∧ E σ5)))) ∧ (r4 = 0 → (U_X2_byteAt σ3 ((gI σ3 9 2) - 1) (fun r8 σ7 => (U_X0_isDigit σ7 r8 (fun r10 σ9 => (((r10 = 0 → (K () σ9)) ∧ (¬ r10 = 0 → (U_X2_wrong σ9 1 (gI σ9 9 2) (fun r12 σ11 => (r12 = 11 ∧ E σ11))))))))))))))))
def U_X2_word_76 (mc ms : Nat) (K : Nat → CS → Prop) (E : CS → Prop) (x1 : Nat) : Nat → Int32 → Nat → Nat → CS → Prop
  | 0 => fun _ _ _ _ => False
  | n + 1 => fun x2 cx zx σ => (((gI σ 9 2) ≤ x2 → (∃ q1, x1 = q1 + 1 ∧ (∃ mc4 ms5 : Nat, (cx + mc4 ≤ mc ∧ zx + ms5 ≤ ms) ∧ (U_J6_valueOf mc4 ms5 σ q1 (fun r3 σ2 => (K r3 σ2)))))) ∧ (¬ (gI σ 9 2) ≤ x2 → (vp_in x2 1600 ∧ (∃ q6, x1 = q6 + 1 ∧ (q6 < CB ∧ (gK σ q6 = some (.inr (3, gN σ q6)) ∧ (vp_in (x2 - (gI σ 9 3)) (gN σ q6) ∧ (∀ σ7 : CS, σ7 = wI σ q6 (Int32.toNatClampNeg (x2 - (gI σ 9 3))) (vp_nar .char ((Int32.toUInt32 (gI σ 8 (Int32.toNatClampNeg x2)) % 65536).toInt32)) → (U_X2_word_76 mc ms K E x1 n (x2 + 1) cx zx σ7)))))))))
def U_X2_word_32 (mc ms : Nat) (K : Nat → CS → Prop) (E : CS → Prop) : Nat → Nat → Nat → CS → Prop
  | 0 => fun _ _ _ => False
  | n + 1 => fun cx zx σ => U_X2_byteAt σ (gI σ 9 2) (fun r9 σ8 => (U_X0_isLetter σ8 r9 (fun r11 σ10 => (((r11 = 0 → (¬ (((gI σ10 9 2) - (gI σ10 9 3)) : Int32) < 0 ∧ ((Int32.toNatClampNeg ((gI σ10 9 2) - (gI σ10 9 3))) ≤ 1000000 ∧ ((cx + 1 ≤ mc ∧ zx + (Int32.toNatClampNeg ((gI σ10 9 2) - (gI σ10 9 3))) ≤ ms) ∧ (σ10.1 < CB ∧ (∀ σ12 : CS, σ12 = nC σ10 (.inr (3, (Int32.toNatClampNeg ((gI σ10 9 2) - (gI σ10 9 3))))) → (∃ n76, U_X2_word_76 mc ms K E ((σ10.1) + 1) n76 (gI σ12 9 3) (cx + 1) (zx + (Int32.toNatClampNeg ((gI σ10 9 2) - (gI σ10 9 3)))) σ12))))))) ∧ (¬ r11 = 0 → (∀ σ13 : CS, σ13 = wI σ10 9 2 ((gI σ10 9 2) + 1) → (U_X2_word_32 mc ms K E n cx zx σ13))))))))
def U_X2_word (mc ms : Nat) (σ : CS) (K : Nat → CS → Prop) (E : CS → Prop) : Prop := U_X2_here σ (fun r15 σ14 => (U_X0_isLetter σ14 r15 (fun r17 σ16 => (((¬ r17 = 0 → (U_X2_parted σ16 (fun _ σ18 => (∀ σ20 : CS, σ20 = wI σ18 9 3 (gI σ18 9 2) → (∃ n32, U_X2_word_32 mc ms K E n32 0 0 σ20))) E)) ∧ (r17 = 0 → (U_X2_wrong σ16 1 (gI σ16 9 2) (fun r22 σ21 => (r22 = 11 ∧ E σ21)))))))))
def U_X2_name (mc ms : Nat) (σ : CS) (K : Nat → CS → Prop) (E : CS → Prop) : Prop := ∃ mc3 ms4 : Nat, (0 + mc3 ≤ mc ∧ 0 + ms4 ≤ ms) ∧ (U_X2_word mc3 ms4 σ (fun r2 σ1 => (∃ q5, r2 = q5 + 1 ∧ (U_X0_find σ1 q5 1048576 (fun r7 σ6 => (((r7 = (-1) → (gK σ6 q5 = some kO21 ∧ (U_J6_length σ6 q5 (fun r9 σ8 => (((r9 ≤ 6 → (K (q5 + 1) σ8)) ∧ (¬ r9 ≤ 6 → (U_X2_wrong σ8 1 ((gI σ8 9 3) + 6) (fun r11 σ10 => (r11 = 11 ∧ E σ10)))))))))) ∧ (¬ r7 = (-1) → (U_X2_wrong σ6 1 (gI σ6 9 3) (fun r13 σ12 => (r13 = 11 ∧ E σ12)))))))))) E)
def U_X2_fresh (mc ms : Nat) (σ : CS) (K : Nat → CS → Prop) (E : CS → Prop) : Prop := ∃ mc3 ms4 : Nat, (0 + mc3 ≤ mc ∧ 0 + ms4 ≤ ms) ∧ (U_X2_name mc3 ms4 σ (fun r2 σ1 => (∃ q5, (gR σ1 9 6) = q5 + 1 ∧ (∃ q7, r2 = q7 + 1 ∧ (gK σ1 q5 = some kO1 ∧ (U_X1_isNamed σ1 q5 q7 (fun r9 σ8 => (((r9 = 0 → (K (q7 + 1) σ8)) ∧ (¬ r9 = 0 → (U_X2_wrong σ8 3 (gI σ8 9 3) (fun r11 σ10 => (r11 = 11 ∧ E σ10)))))))))))) E)
def U_X2_number_2_34 (K : Int32 → CS → Prop) (E : CS → Prop) (x1 : Int32) (x2 : Int32) : Nat → Int32 → CS → Prop
  | 0 => fun _ _ => False
  | n + 1 => fun x3 σ => U_X2_byteAt σ (gI σ 9 2) (fun r2 σ1 => (U_X0_isDigit σ1 r2 (fun r4 σ3 => (((r4 = 0 → (U_X0_is σ3 x3 x1 x2 (fun r6 σ5 => (((¬ r6 = 0 → (K x3 σ5)) ∧ (r6 = 0 → (U_X2_wrong σ5 2 (gI σ5 9 3) (fun r8 σ7 => (r8 = 11 ∧ E σ7))))))))) ∧ (¬ r4 = 0 → (((¬ ((gI σ3 9 2) - (gI σ3 9 3)) = (4 : Int32) → (U_X2_byteAt σ3 (gI σ3 9 2) (fun r10 σ9 => (∀ σ11 : CS, σ11 = wI σ9 9 2 ((gI σ9 9 2) + 1) → (U_X2_number_2_34 K E x1 x2 n (((10 * x3) + r10) - 48) σ11))))) ∧ (((gI σ3 9 2) - (gI σ3 9 3)) = (4 : Int32) → (U_X2_wrong σ3 1 (gI σ3 9 2) (fun r13 σ12 => (r13 = 11 ∧ E σ12))))))))))))
def U_X2_number_2 (σ : CS) (x1 : Int32) (x2 : Int32) (K : Int32 → CS → Prop) (E : CS → Prop) : Prop := U_X2_here σ (fun r15 σ14 => (U_X0_isDigit σ14 r15 (fun r17 σ16 => (((¬ r17 = 0 → (U_X2_parted σ16 (fun _ σ18 => (∀ σ20 : CS, σ20 = wI σ18 9 3 (gI σ18 9 2) → (∃ n34, U_X2_number_2_34 K E x1 x2 n34 0 σ20))) E)) ∧ (r17 = 0 → (U_X2_wrong σ16 1 (gI σ16 9 2) (fun r22 σ21 => (r22 = 11 ∧ E σ21)))))))))
def U_X2_word_2 (mc ms : Nat) (σ : CS) (x1 : Nat) (K : Unit → CS → Prop) (E : CS → Prop) : Prop := ∃ mc3 ms4 : Nat, (0 + mc3 ≤ mc ∧ 0 + ms4 ≤ ms) ∧ (U_X2_word mc3 ms4 σ (fun r2 σ1 => (∃ q5, r2 = q5 + 1 ∧ (gK σ1 q5 = some kO21 ∧ (U_J6_equals σ1 q5 x1 (fun r7 σ6 => (((¬ r7 = 0 → (K () σ6)) ∧ (r7 = 0 → (U_X2_wrong σ6 1 (gI σ6 9 3) (fun r9 σ8 => (r9 = 11 ∧ E σ8))))))))))) E)
def U_X2_number (mc ms : Nat) (σ : CS) (x1 : Nat) (x2 : Int32) (x3 : Int32) (K : Int32 → CS → Prop) (E : CS → Prop) : Prop := ∃ mc3 ms4 : Nat, (0 + mc3 ≤ mc ∧ 0 + ms4 ≤ ms) ∧ (U_X2_word_2 mc3 ms4 σ x1 (fun _ σ1 => (U_X2_number_2 σ1 x2 x3 (fun r6 σ5 => (K r6 σ5)) E)) E)
def U_X2_opens (σ : CS) (x1 : Int32) (K : Unit → CS → Prop) (E : CS → Prop) : Prop := ((¬ (gI σ 9 4) = (6 : Int32) → (∀ σ1 : CS, σ1 = wI σ 9 4 ((gI σ 9 4) + 1) → (K () σ1))) ∧ ((gI σ 9 4) = (6 : Int32) → (U_X2_wrong σ 4 x1 (fun r3 σ2 => (r3 = 11 ∧ E σ2)))))
def U_X2_must (σ : CS) (x1 : Int32) (K : Unit → CS → Prop) (E : CS → Prop) : Prop := U_X2_here σ (fun r2 σ1 => (((r2 = x1 → (∀ σ3 : CS, σ3 = wI σ1 9 2 ((gI σ1 9 2) + 1) → (K () σ3))) ∧ (¬ r2 = x1 → (U_X2_wrong σ1 1 (gI σ1 9 2) (fun r5 σ4 => (r5 = 11 ∧ E σ4)))))))
def U_X2_passes (mc ms : Nat) (σ : CS) (x1 : Nat) (K : Int32 → CS → Prop) (E : CS → Prop) : Prop := U_X2_here σ (fun r2 σ1 => (U_X0_isLetter σ1 r2 (fun r4 σ3 => (((¬ r4 = 0 → (∃ mc7 ms8 : Nat, (0 + mc7 ≤ mc ∧ 0 + ms8 ≤ ms) ∧ (U_X2_word mc7 ms8 σ3 (fun r6 σ5 => (∃ q9, r6 = q9 + 1 ∧ (gK σ5 q9 = some kO21 ∧ (U_J6_equals σ5 q9 x1 (fun r11 σ10 => (((r11 = 0 → (∀ σ12 : CS, σ12 = wI σ10 9 2 (gI σ 9 2) → (K 0 σ12))) ∧ (¬ r11 = 0 → (K 1 σ10))))))))) E))) ∧ (r4 = 0 → (K 0 σ3)))))))
def U_X2_takes_13 (K : Int32 → CS → Prop) (s0 : Int32) (σ : CS) : Prop := ((s0 = 0 → (∀ σ1 : CS, σ1 = wI σ 9 2 ((gI σ 9 2) + 0) → (narrow .boolean (.int s0) = .int s0 ∧ K s0 σ1))) ∧ (¬ s0 = 0 → (∀ σ2 : CS, σ2 = wI σ 9 2 ((gI σ 9 2) + 1) → (narrow .boolean (.int s0) = .int s0 ∧ K s0 σ2))))
def U_X2_takes (σ : CS) (x1 : Int32) (K : Int32 → CS → Prop) : Prop := U_X2_here σ (fun r4 σ3 => (((¬ r4 = x1 → (U_X2_takes_13 K 0 σ3)) ∧ (r4 = x1 → (U_X2_takes_13 K 1 σ3)))))
theorem hdS_J6_valueOf : yJ6_valueOf.cls ≠ "java/lang/invoke/MethodHandle" ∧ yJ6_valueOf.cls ≠ "java/lang/invoke/VarHandle" ∧ (parseMethodDescriptor yJ6_valueOf.desc).map (fun d => d.parameters.length) = some 1 := by decide +kernel
theorem hdS_X0_find : yX0_find.cls ≠ "java/lang/invoke/MethodHandle" ∧ yX0_find.cls ≠ "java/lang/invoke/VarHandle" ∧ (parseMethodDescriptor yX0_find.desc).map (fun d => d.parameters.length) = some 2 := by decide +kernel
theorem hdS_X0_isDigit : yX0_isDigit.cls ≠ "java/lang/invoke/MethodHandle" ∧ yX0_isDigit.cls ≠ "java/lang/invoke/VarHandle" ∧ (parseMethodDescriptor yX0_isDigit.desc).map (fun d => d.parameters.length) = some 1 := by decide +kernel
theorem hdS_X0_isLetter : yX0_isLetter.cls ≠ "java/lang/invoke/MethodHandle" ∧ yX0_isLetter.cls ≠ "java/lang/invoke/VarHandle" ∧ (parseMethodDescriptor yX0_isLetter.desc).map (fun d => d.parameters.length) = some 1 := by decide +kernel
theorem hdV_X1_isNamed : yX1_isNamed.cls = RX1 ∧ yX1_isNamed.cls ≠ "java/lang/invoke/MethodHandle" ∧ yX1_isNamed.cls ≠ "java/lang/invoke/VarHandle" ∧ (parseMethodDescriptor yX1_isNamed.desc).map (fun d => d.parameters.length) = some 1 := by decide +kernel
theorem hdV_X2_byteAt : yX2_byteAt.cls = RX2 ∧ yX2_byteAt.cls ≠ "java/lang/invoke/MethodHandle" ∧ yX2_byteAt.cls ≠ "java/lang/invoke/VarHandle" ∧ (parseMethodDescriptor yX2_byteAt.desc).map (fun d => d.parameters.length) = some 1 := by decide +kernel
theorem hdV_X2_here : yX2_here.cls = RX2 ∧ yX2_here.cls ≠ "java/lang/invoke/MethodHandle" ∧ yX2_here.cls ≠ "java/lang/invoke/VarHandle" ∧ (parseMethodDescriptor yX2_here.desc).map (fun d => d.parameters.length) = some 0 := by decide +kernel
theorem hdV_X2_name : yX2_name.cls = RX2 ∧ yX2_name.cls ≠ "java/lang/invoke/MethodHandle" ∧ yX2_name.cls ≠ "java/lang/invoke/VarHandle" ∧ (parseMethodDescriptor yX2_name.desc).map (fun d => d.parameters.length) = some 0 := by decide +kernel
theorem hdV_X2_number_2 : yX2_number_2.cls = RX2 ∧ yX2_number_2.cls ≠ "java/lang/invoke/MethodHandle" ∧ yX2_number_2.cls ≠ "java/lang/invoke/VarHandle" ∧ (parseMethodDescriptor yX2_number_2.desc).map (fun d => d.parameters.length) = some 2 := by decide +kernel
theorem hdV_X2_parted : yX2_parted.cls = RX2 ∧ yX2_parted.cls ≠ "java/lang/invoke/MethodHandle" ∧ yX2_parted.cls ≠ "java/lang/invoke/VarHandle" ∧ (parseMethodDescriptor yX2_parted.desc).map (fun d => d.parameters.length) = some 0 := by decide +kernel
theorem hdV_X2_word : yX2_word.cls = RX2 ∧ yX2_word.cls ≠ "java/lang/invoke/MethodHandle" ∧ yX2_word.cls ≠ "java/lang/invoke/VarHandle" ∧ (parseMethodDescriptor yX2_word.desc).map (fun d => d.parameters.length) = some 0 := by decide +kernel
theorem hdV_X2_word_2 : yX2_word_2.cls = RX2 ∧ yX2_word_2.cls ≠ "java/lang/invoke/MethodHandle" ∧ yX2_word_2.cls ≠ "java/lang/invoke/VarHandle" ∧ (parseMethodDescriptor yX2_word_2.desc).map (fun d => d.parameters.length) = some 1 := by decide +kernel
theorem hdV_X2_wrong : yX2_wrong.cls = RX2 ∧ yX2_wrong.cls ≠ "java/lang/invoke/MethodHandle" ∧ yX2_wrong.cls ≠ "java/lang/invoke/VarHandle" ∧ (parseMethodDescriptor yX2_wrong.desc).map (fun d => d.parameters.length) = some 2 := by decide +kernel
set_option maxHeartbeats 4000000 in
set_option maxRecDepth 100000 in
theorem um_X2_byteAt (l : Launch) (D : va_G) (dA : Nat → ClassId) (ad : Nat → Nat) (Hs : Heap) (hA : cAd ad 1296 Hs.size) (σ : CS) (x1 : Int32) (K : Int32 → CS → Prop) (hT : U_X2_byteAt σ x1 K) : Met l yX2_byteAt (ws_ yX2_byteAt cX2_byteAt 2 (some .int)) ({ frames := 1, cells := 0, slots := 0, locals := 12 }) (va_Pc [.ref (ad 9), .int x1] (cU D dA ad 1296 Hs σ)) (xQ rvI K (cU D dA ad 1296 Hs) (cA ad)) 0 0 (cA ad) := by
  refine xm_i hA (by decide) rfl (Nat.le_of_ble_eq_true rfl) ?_
  intro p e s m args below meth c Q hC hN hret hI ls hl
  have hx := hC.1.1
  have hb := hC.1.2.1
  have hB : 0 ≤ 0 ∧ 0 ≤ 0 := ⟨Nat.zero_le _, Nat.zero_le _⟩
  have hl : lv_has ls 2 [(0, .ref (ad 9)), (1, .int x1)] := hl
  unfold U_X2_byteAt at hT
  refine lv_iload_n hx hb dX2_byteAt_0 rfl (lv_at hl 1 rfl) ?_
  refine lv_if_lt (tgt := 28) hx hb dX2_byteAt_1 (by decide) (fun hc => ?_) (fun hc => ?_)
  · replace hT := hT.1 hc
    refine lv_iconst (v := -1) hx hb dX2_byteAt_28 (by decide) ?_
    exact hret _ _ _ _ _ _ _ _ hT hI hB dX2_byteAt_29
  · replace hT := hT.2 hc
    refine lv_iload_n hx hb dX2_byteAt_4 rfl (lv_at hl 1 rfl) ?_
    refine lv_aload_n hx hb dX2_byteAt_5 rfl (lv_at hl 0 rfl) ?_
    refine xg2_1 (i := 9) hC hI (xst hI (Nat.le_of_ble_eq_true rfl) sl_9) q365 (fun _ h => h) dX2_byteAt_6 ?_
    refine lv_icmp_ge (tgt := 28) hx hb dX2_byteAt_9 (by decide) (fun hc => ?_) (fun hc => ?_)
    · replace hT := hT.1 hc
      refine lv_iconst (v := -1) hx hb dX2_byteAt_28 (by decide) ?_
      exact hret _ _ _ _ _ _ _ _ hT hI hB dX2_byteAt_29
    · replace hT := hT.2 hc
      refine lv_aload_n hx hb dX2_byteAt_12 rfl (lv_at hl 0 rfl) ?_
      refine xg2_7 (i := 9) hC hI (xst hI (Nat.le_of_ble_eq_true rfl) sl_9) q371 (fun _ h => h) dX2_byteAt_13 ?_
      refine xgN0_1 (i := 0) hC hI (xst hI (Nat.le_of_ble_eq_true rfl) sl_0) q471 (fun _ h => h) dX2_byteAt_16 ?_
      refine lv_iload_n hx hb dX2_byteAt_19 rfl (lv_at hl 1 rfl) ?_
      refine x_bald (i := 8) hC hI (xst hI (Nat.le_of_ble_eq_true rfl) sl_8) hT dX2_byteAt_20 (fun hT => ?_)
      refine lv_sipush (v := 255) hx hb dX2_byteAt_21 (by decide) ?_
      refine lv_iand hx hb dX2_byteAt_24 ?_
      refine lv_goto (tgt := 29) hx hb dX2_byteAt_25 (by decide) ?_
      exact hret _ _ _ _ _ _ _ _ hT hI hB dX2_byteAt_29
set_option maxHeartbeats 4000000 in
set_option maxRecDepth 100000 in
theorem um_X2_here (l : Launch) (D : va_G) (dA : Nat → ClassId) (ad : Nat → Nat) (Hs : Heap) (hA : cAd ad 1296 Hs.size) (σ : CS) (K : Int32 → CS → Prop) (hT : U_X2_here σ K) : Met l yX2_here (ws_ yX2_here cX2_here 1 (some .int)) ({ frames := 2, cells := 0, slots := 0, locals := 33 }) (va_Pc [.ref (ad 9)] (cU D dA ad 1296 Hs σ)) (xQ rvI K (cU D dA ad 1296 Hs) (cA ad)) 0 0 (cA ad) := by
  refine xm_i hA (by decide) rfl (Nat.le_of_ble_eq_true rfl) ?_
  intro p e s m args below meth c Q hC hN hret hI ls hl
  have hx := hC.1.1
  have hb := hC.1.2.1
  have hB : 0 ≤ 0 ∧ 0 ≤ 0 := ⟨Nat.zero_le _, Nat.zero_le _⟩
  have hl : lv_has ls 1 [(0, .ref (ad 9))] := hl
  have w_0 : ∀ (n : Nat) (σ : CS) (H : Heap) (locs : List Loc) (ls : Array Slot), U_X2_here_0 K n σ → xI D dA ad 1296 Hs s.heap σ H locs → lv_has ls 1 [(0, .ref (ad 9))] → W p l e ({ frames := 2, cells := 0, slots := 0, locals := 33 }) s m args below meth c H locs 0 0 Q (F0 m 0 ls []) := by
    intro n
    induction n with
    | zero => intro σ H locs ls hT; exact hT.elim
    | succ n ih =>
      intro σ H locs ls hT hI hl
      unfold U_X2_here_0 at hT
      refine lv_aload_n hx hb dX2_here_0 rfl (lv_at hl 0 rfl) ?_
      refine lv_aload_n hx hb dX2_here_1 rfl (lv_at hl 0 rfl) ?_
      refine xg2_2 (i := 9) hC hI (xst hI (Nat.le_of_ble_eq_true rfl) sl_9) q366 (fun _ h => h) dX2_here_2 ?_
      refine x_call (x_runV (i := 9) hC hI (xst hI (Nat.le_of_ble_eq_true rfl) sl_9) rfl (um_X2_byteAt l D dA ad Hs hC.2.2 σ (gI σ 9 2) _ hT) (lw_V q568 q570 qs5 q163 q571) 1 hdV_X2_byteAt ⟨rfl, rfl⟩ ⟨Nat.le_of_ble_eq_true rfl, Nat.le_of_ble_eq_true rfl⟩ rfl hl.1 rfl (Nat.le_of_ble_eq_true rfl) hB dX2_here_5) hI (fun r2 σ1 H locs hT hI => ?_)
      refine W.eq (g2 := F0 m 8 ls [.int r2]) rfl ?_
      refine lv_bipush (v := 32) hx hb dX2_here_8 (by decide) ?_
      refine lv_icmp_eq (tgt := 26) hx hb dX2_here_10 (by decide) (fun hc => ?_) (fun hc => ?_)
      · replace hT := hT.1 hc
        refine lv_aload_n hx hb dX2_here_26 rfl (lv_at hl 0 rfl) ?_
        refine lv_dup hx hb dX2_here_27 rfl ?_
        refine xg2_2 (i := 9) hC hI (xst hI (Nat.le_of_ble_eq_true rfl) sl_9) q366 (fun _ h => h) dX2_here_28 ?_
        refine lv_iconst (v := 1) hx hb dX2_here_31 (by decide) ?_
        refine lv_iadd hx hb dX2_here_32 ?_
        refine xp2_2 (i := 9) (v := (gI σ1 9 2) + 1) hC hI (Nat.lt_of_lt_of_le (show _ < 1296 from (Nat.le_of_ble_eq_true rfl)) (by decide)) (xst hI (Nat.le_of_ble_eq_true rfl) sl_9) hT q366 (fun _ h => h) dX2_here_33 (fun σ3 H locs hT hI => ?_)
        refine lv_goto (tgt := 0) hx hb dX2_here_36 (by decide) ?_
        exact ih σ3 _ _ _ hT hI (lv_sub hl [0] rfl)
      · replace hT := hT.2 hc
        refine lv_aload_n hx hb dX2_here_13 rfl (lv_at hl 0 rfl) ?_
        refine lv_aload_n hx hb dX2_here_14 rfl (lv_at hl 0 rfl) ?_
        refine xg2_2 (i := 9) hC hI (xst hI (Nat.le_of_ble_eq_true rfl) sl_9) q366 (fun _ h => h) dX2_here_15 ?_
        refine x_call (x_runV (i := 9) hC hI (xst hI (Nat.le_of_ble_eq_true rfl) sl_9) rfl (um_X2_byteAt l D dA ad Hs hC.2.2 σ1 (gI σ1 9 2) _ hT) (lw_V q568 q570 qs5 q163 q571) 1 hdV_X2_byteAt ⟨rfl, rfl⟩ ⟨Nat.le_of_ble_eq_true rfl, Nat.le_of_ble_eq_true rfl⟩ rfl hl.1 rfl (Nat.le_of_ble_eq_true rfl) hB dX2_here_18) hI (fun r5 σ4 H locs hT hI => ?_)
        refine W.eq (g2 := F0 m 21 ls [.int r5]) rfl ?_
        refine lv_bipush (v := 10) hx hb dX2_here_21 (by decide) ?_
        refine lv_icmp_ne (tgt := 39) hx hb dX2_here_23 (by decide) (fun hc => ?_) (fun hc => ?_)
        · replace hT := hT.1 hc
          refine lv_aload_n hx hb dX2_here_39 rfl (lv_at hl 0 rfl) ?_
          refine lv_aload_n hx hb dX2_here_40 rfl (lv_at hl 0 rfl) ?_
          refine xg2_2 (i := 9) hC hI (xst hI (Nat.le_of_ble_eq_true rfl) sl_9) q366 (fun _ h => h) dX2_here_41 ?_
          refine x_call (x_runV (i := 9) hC hI (xst hI (Nat.le_of_ble_eq_true rfl) sl_9) rfl (um_X2_byteAt l D dA ad Hs hC.2.2 σ4 (gI σ4 9 2) _ hT) (lw_V q568 q570 qs5 q163 q571) 1 hdV_X2_byteAt ⟨rfl, rfl⟩ ⟨Nat.le_of_ble_eq_true rfl, Nat.le_of_ble_eq_true rfl⟩ rfl hl.1 rfl (Nat.le_of_ble_eq_true rfl) hB dX2_here_44) hI (fun r7 σ6 H locs hT hI => ?_)
          refine W.eq (g2 := F0 m 47 ls [.int r7]) rfl ?_
          exact hret _ _ _ _ _ _ _ _ hT hI hB dX2_here_47
        · replace hT := hT.2 hc
          refine lv_aload_n hx hb dX2_here_26 rfl (lv_at hl 0 rfl) ?_
          refine lv_dup hx hb dX2_here_27 rfl ?_
          refine xg2_2 (i := 9) hC hI (xst hI (Nat.le_of_ble_eq_true rfl) sl_9) q366 (fun _ h => h) dX2_here_28 ?_
          refine lv_iconst (v := 1) hx hb dX2_here_31 (by decide) ?_
          refine lv_iadd hx hb dX2_here_32 ?_
          refine xp2_2 (i := 9) (v := (gI σ4 9 2) + 1) hC hI (Nat.lt_of_lt_of_le (show _ < 1296 from (Nat.le_of_ble_eq_true rfl)) (by decide)) (xst hI (Nat.le_of_ble_eq_true rfl) sl_9) hT q366 (fun _ h => h) dX2_here_33 (fun σ8 H locs hT hI => ?_)
          refine lv_goto (tgt := 0) hx hb dX2_here_36 (by decide) ?_
          exact ih σ8 _ _ _ hT hI (lv_sub hl [0] rfl)
  unfold U_X2_here at hT
  obtain ⟨n0, hT⟩ := hT
  exact w_0 n0 σ _ _ _ hT hI (lv_sub hl [0] rfl)
set_option maxHeartbeats 4000000 in
set_option maxRecDepth 100000 in
theorem um_X2_wrong (l : Launch) (D : va_G) (dA : Nat → ClassId) (ad : Nat → Nat) (Hs : Heap) (hA : cAd ad 1296 Hs.size) (σ : CS) (x1 : Int32) (x2 : Int32) (K : Nat → CS → Prop) (hT : U_X2_wrong σ x1 x2 K) : Met l yX2_wrong (ws_ yX2_wrong cX2_wrong 3 (some (.object "MendedThings$Fault"))) ({ frames := 1, cells := 0, slots := 0, locals := 12 }) (va_Pc [.ref (ad 9), .int x1, .int x2] (cU D dA ad 1296 Hs σ)) (xQ (rvR ad) K (cU D dA ad 1296 Hs) (cA ad)) 0 0 (cA ad) := by
  refine xm_r (Or.inl ⟨_, rfl⟩) hA (by decide) rfl (Nat.le_of_ble_eq_true rfl) ?_
  intro p e s m args below meth c Q hC hN hret hI ls hl
  have hx := hC.1.1
  have hb := hC.1.2.1
  have hB : 0 ≤ 0 ∧ 0 ≤ 0 := ⟨Nat.zero_le _, Nat.zero_le _⟩
  have hl : lv_has ls 3 [(0, .ref (ad 9)), (1, .int x1), (2, .int x2)] := hl
  unfold U_X2_wrong at hT
  refine lv_aload_n hx hb dX2_wrong_0 rfl (lv_at hl 0 rfl) ?_
  refine xg2_0 (i := 9) hC hI (xst hI (Nat.le_of_ble_eq_true rfl) sl_9) q364 (fun _ h => h) dX2_wrong_1 ?_
  refine lv_iload_n hx hb dX2_wrong_4 rfl (lv_at hl 1 rfl) ?_
  refine xpN3_6 (i := 10) (v := x1) hC hI (Nat.lt_of_lt_of_le (show _ < 1296 from (Nat.le_of_ble_eq_true rfl)) (by decide)) (xst hI (Nat.le_of_ble_eq_true rfl) sl_10) hT q342 (fun _ h => h) dX2_wrong_5 (fun σ1 H locs hT hI => ?_)
  refine lv_aload_n hx hb dX2_wrong_8 rfl (lv_at hl 0 rfl) ?_
  refine xg2_0 (i := 9) hC hI (xst hI (Nat.le_of_ble_eq_true rfl) sl_9) q364 (fun _ h => h) dX2_wrong_9 ?_
  refine lv_iload_n hx hb dX2_wrong_12 rfl (lv_at hl 2 rfl) ?_
  refine xpN3_7 (i := 10) (v := x2) hC hI (Nat.lt_of_lt_of_le (show _ < 1296 from (Nat.le_of_ble_eq_true rfl)) (by decide)) (xst hI (Nat.le_of_ble_eq_true rfl) sl_10) hT q344 (fun _ h => h) dX2_wrong_13 (fun σ2 H locs hT hI => ?_)
  refine lv_aload_n hx hb dX2_wrong_16 rfl (lv_at hl 0 rfl) ?_
  refine xg2_0 (i := 9) hC hI (xst hI (Nat.le_of_ble_eq_true rfl) sl_9) q364 (fun _ h => h) dX2_wrong_17 ?_
  exact hret 11 _ _ _ _ _ _ _ hT hI hB dX2_wrong_20
set_option maxHeartbeats 4000000 in
set_option maxRecDepth 100000 in
theorem um_X2_most (l : Launch) (D : va_G) (dA : Nat → ClassId) (ad : Nat → Nat) (Hs : Heap) (hA : cAd ad 1296 Hs.size) (σ : CS) (x1 : Int32) (x2 : Int32) (K : Unit → CS → Prop) (E : CS → Prop) (hT : U_X2_most σ x1 x2 K E) : vq_Met l yX2_most (ws_ yX2_most cX2_most 3 (none)) ({ frames := 2, cells := 0, slots := 0, locals := 34 }) (va_Pc [.ref (ad 9), .int x1, .int x2] (cU D dA ad 1296 Hs σ)) (xQ rvU K (cU D dA ad 1296 Hs) (cA ad)) (xX D dA ad 1296 Hs E) 0 0 (cA ad) := by
  refine xt_v hA (by decide) rfl (Nat.le_of_ble_eq_true rfl) ?_
  intro p e s m args below meth c Q hC hN hret hthr hI ls hl
  have hx := hC.1.1
  have hb := hC.1.2.1
  have hB : 0 ≤ 0 ∧ 0 ≤ 0 := ⟨Nat.zero_le _, Nat.zero_le _⟩
  have hl : lv_has ls 3 [(0, .ref (ad 9)), (1, .int x1), (2, .int x2)] := hl
  unfold U_X2_most at hT
  refine lv_iload_n hx hb dX2_most_0 rfl (lv_at hl 1 rfl) ?_
  refine lv_if_eq (tgt := 11) hx hb dX2_most_1 (by decide) (fun hc => ?_) (fun hc => ?_)
  · replace hT := hT.1 hc
    exact hret _ _ _ _ _ _ _ _ hT hI hB dX2_most_11
  · replace hT := hT.2 hc
    refine lv_aload_n hx hb dX2_most_4 rfl (lv_at hl 0 rfl) ?_
    refine lv_iconst (v := 5) hx hb dX2_most_5 (by decide) ?_
    refine lv_iload_n hx hb dX2_most_6 rfl (lv_at hl 2 rfl) ?_
    refine x_call (x_runV (i := 9) hC hI (xst hI (Nat.le_of_ble_eq_true rfl) sl_9) rfl (um_X2_wrong l D dA ad Hs hC.2.2 σ 5 x2 _ hT) (lw_V q576 q578 qs7 q163 q579) 2 hdV_X2_wrong ⟨rfl, rfl⟩ ⟨Nat.le_of_ble_eq_true rfl, Nat.le_of_ble_eq_true rfl⟩ rfl hl.1 rfl (Nat.le_of_ble_eq_true rfl) hB dX2_most_7) hI (fun r2 σ1 H locs hT hI => ?_)
    refine W.eq (g2 := F0 m 10 ls [va_rf (rgR ad r2)]) rfl ?_
    obtain ⟨h11, hT⟩ := hT
    refine W.eq (congrArg (fun z => F0 m 10 ls [z]) (xrq h11)) ?_
    exact vq_athrow hx hb dX2_most_10 (hthr _ _ _ _ _ _ _ _ hT hI (xst hI (Nat.le_of_ble_eq_true rfl) sl_10) hB)
set_option maxHeartbeats 4000000 in
set_option maxRecDepth 100000 in
theorem um_X2_parted (l : Launch) (D : va_G) (dA : Nat → ClassId) (ad : Nat → Nat) (Hs : Heap) (hA : cAd ad 1296 Hs.size) (σ : CS) (K : Unit → CS → Prop) (E : CS → Prop) (hT : U_X2_parted σ K E) : vq_Met l yX2_parted (ws_ yX2_parted cX2_parted 1 (none)) ({ frames := 2, cells := 0, slots := 0, locals := 34 }) (va_Pc [.ref (ad 9)] (cU D dA ad 1296 Hs σ)) (xQ rvU K (cU D dA ad 1296 Hs) (cA ad)) (xX D dA ad 1296 Hs E) 0 0 (cA ad) := by
  refine xt_v hA (by decide) rfl (Nat.le_of_ble_eq_true rfl) ?_
  intro p e s m args below meth c Q hC hN hret hthr hI ls hl
  have hx := hC.1.1
  have hb := hC.1.2.1
  have hB : 0 ≤ 0 ∧ 0 ≤ 0 := ⟨Nat.zero_le _, Nat.zero_le _⟩
  have hl : lv_has ls 1 [(0, .ref (ad 9))] := hl
  unfold U_X2_parted at hT
  refine lv_aload_n hx hb dX2_parted_0 rfl (lv_at hl 0 rfl) ?_
  refine lv_aload_n hx hb dX2_parted_1 rfl (lv_at hl 0 rfl) ?_
  refine xg2_2 (i := 9) hC hI (xst hI (Nat.le_of_ble_eq_true rfl) sl_9) q366 (fun _ h => h) dX2_parted_2 ?_
  refine lv_iconst (v := 1) hx hb dX2_parted_5 (by decide) ?_
  refine lv_isub hx hb dX2_parted_6 ?_
  refine x_call (x_runV (i := 9) hC hI (xst hI (Nat.le_of_ble_eq_true rfl) sl_9) rfl (um_X2_byteAt l D dA ad Hs hC.2.2 σ ((gI σ 9 2) - 1) _ hT) (lw_V q568 q570 qs5 q163 q571) 1 hdV_X2_byteAt ⟨rfl, rfl⟩ ⟨Nat.le_of_ble_eq_true rfl, Nat.le_of_ble_eq_true rfl⟩ rfl hl.1 rfl (Nat.le_of_ble_eq_true rfl) hB dX2_parted_7) hI (fun r2 σ1 H locs hT hI => ?_)
  refine W.eq (g2 := F0 m 10 ls [.int r2]) rfl ?_
  refine x_call (x_runSN hC hI (um_X0_isLetter l D dA ad 1296 Hs hC.2.2 σ1 r2 _ hT) q584 q585 q158 q586 1 hdS_X0_isLetter ⟨rfl, rfl⟩ ⟨Nat.le_of_ble_eq_true rfl, Nat.le_of_ble_eq_true rfl⟩ rfl hl.1 rfl (Nat.le_of_ble_eq_true rfl) hB dX2_parted_10) hI (fun r4 σ3 H locs hT hI => ?_)
  refine W.eq (g2 := F0 m 13 ls [.int r4]) rfl ?_
  refine lv_if_ne (tgt := 32) hx hb dX2_parted_13 (by decide) (fun hc => ?_) (fun hc => ?_)
  · replace hT := hT.1 hc
    refine lv_aload_n hx hb dX2_parted_32 rfl (lv_at hl 0 rfl) ?_
    refine lv_iconst (v := 1) hx hb dX2_parted_33 (by decide) ?_
    refine lv_aload_n hx hb dX2_parted_34 rfl (lv_at hl 0 rfl) ?_
    refine xg2_2 (i := 9) hC hI (xst hI (Nat.le_of_ble_eq_true rfl) sl_9) q366 (fun _ h => h) dX2_parted_35 ?_
    refine x_call (x_runV (i := 9) hC hI (xst hI (Nat.le_of_ble_eq_true rfl) sl_9) rfl (um_X2_wrong l D dA ad Hs hC.2.2 σ3 1 (gI σ3 9 2) _ hT) (lw_V q576 q578 qs7 q163 q579) 2 hdV_X2_wrong ⟨rfl, rfl⟩ ⟨Nat.le_of_ble_eq_true rfl, Nat.le_of_ble_eq_true rfl⟩ rfl hl.1 rfl (Nat.le_of_ble_eq_true rfl) hB dX2_parted_38) hI (fun r6 σ5 H locs hT hI => ?_)
    refine W.eq (g2 := F0 m 41 ls [va_rf (rgR ad r6)]) rfl ?_
    obtain ⟨h11, hT⟩ := hT
    refine W.eq (congrArg (fun z => F0 m 41 ls [z]) (xrq h11)) ?_
    exact vq_athrow hx hb dX2_parted_41 (hthr _ _ _ _ _ _ _ _ hT hI (xst hI (Nat.le_of_ble_eq_true rfl) sl_10) hB)
  · replace hT := hT.2 hc
    refine lv_aload_n hx hb dX2_parted_16 rfl (lv_at hl 0 rfl) ?_
    refine lv_aload_n hx hb dX2_parted_17 rfl (lv_at hl 0 rfl) ?_
    refine xg2_2 (i := 9) hC hI (xst hI (Nat.le_of_ble_eq_true rfl) sl_9) q366 (fun _ h => h) dX2_parted_18 ?_
    refine lv_iconst (v := 1) hx hb dX2_parted_21 (by decide) ?_
    refine lv_isub hx hb dX2_parted_22 ?_
    refine x_call (x_runV (i := 9) hC hI (xst hI (Nat.le_of_ble_eq_true rfl) sl_9) rfl (um_X2_byteAt l D dA ad Hs hC.2.2 σ3 ((gI σ3 9 2) - 1) _ hT) (lw_V q568 q570 qs5 q163 q571) 1 hdV_X2_byteAt ⟨rfl, rfl⟩ ⟨Nat.le_of_ble_eq_true rfl, Nat.le_of_ble_eq_true rfl⟩ rfl hl.1 rfl (Nat.le_of_ble_eq_true rfl) hB dX2_parted_23) hI (fun r8 σ7 H locs hT hI => ?_)
    refine W.eq (g2 := F0 m 26 ls [.int r8]) rfl ?_
    refine x_call (x_runSN hC hI (um_X0_isDigit l D dA ad 1296 Hs hC.2.2 σ7 r8 _ hT) q591 q592 q158 q593 1 hdS_X0_isDigit ⟨rfl, rfl⟩ ⟨Nat.le_of_ble_eq_true rfl, Nat.le_of_ble_eq_true rfl⟩ rfl hl.1 rfl (Nat.le_of_ble_eq_true rfl) hB dX2_parted_26) hI (fun r10 σ9 H locs hT hI => ?_)
    refine W.eq (g2 := F0 m 29 ls [.int r10]) rfl ?_
    refine lv_if_eq (tgt := 42) hx hb dX2_parted_29 (by decide) (fun hc => ?_) (fun hc => ?_)
    · replace hT := hT.1 hc
      exact hret _ _ _ _ _ _ _ _ hT hI hB dX2_parted_42
    · replace hT := hT.2 hc
      refine lv_aload_n hx hb dX2_parted_32 rfl (lv_at hl 0 rfl) ?_
      refine lv_iconst (v := 1) hx hb dX2_parted_33 (by decide) ?_
      refine lv_aload_n hx hb dX2_parted_34 rfl (lv_at hl 0 rfl) ?_
      refine xg2_2 (i := 9) hC hI (xst hI (Nat.le_of_ble_eq_true rfl) sl_9) q366 (fun _ h => h) dX2_parted_35 ?_
      refine x_call (x_runV (i := 9) hC hI (xst hI (Nat.le_of_ble_eq_true rfl) sl_9) rfl (um_X2_wrong l D dA ad Hs hC.2.2 σ9 1 (gI σ9 9 2) _ hT) (lw_V q576 q578 qs7 q163 q579) 2 hdV_X2_wrong ⟨rfl, rfl⟩ ⟨Nat.le_of_ble_eq_true rfl, Nat.le_of_ble_eq_true rfl⟩ rfl hl.1 rfl (Nat.le_of_ble_eq_true rfl) hB dX2_parted_38) hI (fun r12 σ11 H locs hT hI => ?_)
      refine W.eq (g2 := F0 m 41 ls [va_rf (rgR ad r12)]) rfl ?_
      obtain ⟨h11, hT⟩ := hT
      refine W.eq (congrArg (fun z => F0 m 41 ls [z]) (xrq h11)) ?_
      exact vq_athrow hx hb dX2_parted_41 (hthr _ _ _ _ _ _ _ _ hT hI (xst hI (Nat.le_of_ble_eq_true rfl) sl_10) hB)
set_option maxHeartbeats 4000000 in
set_option maxRecDepth 100000 in
theorem um_X2_word (l : Launch) (D : va_G) (dA : Nat → ClassId) (ad : Nat → Nat) (Hs : Heap) (hA : cAd ad 1296 Hs.size) (mc ms : Nat) (σ : CS) (K : Nat → CS → Prop) (E : CS → Prop) (hT : U_X2_word mc ms σ K E) : vq_Met l yX2_word (ws_ yX2_word cX2_word 3 (some (.object "java/lang/String"))) ({ frames := 6, cells := mc, slots := ms, locals := 129 }) (va_Pc [.ref (ad 9)] (cU D dA ad 1296 Hs σ)) (xQ (rvR ad) K (cU D dA ad 1296 Hs) (cA ad)) (xX D dA ad 1296 Hs E) mc ms (cA ad) := by
  refine xt_r (Or.inl ⟨_, rfl⟩) hA (by decide) rfl (Nat.le_of_ble_eq_true rfl) ?_
  intro p e s m args below meth c Q hC hN hret hthr hI ls hl
  have hx := hC.1.1
  have hb := hC.1.2.1
  have hB : 0 ≤ mc ∧ 0 ≤ ms := ⟨Nat.zero_le _, Nat.zero_le _⟩
  have hl : lv_has ls 3 [(0, .ref (ad 9))] := hl
  have w_76 : ∀ (x1 : Nat) (n : Nat) (x2 : Int32) (cx : Nat) (zx : Nat) (σ : CS) (H : Heap) (locs : List Loc) (ls : Array Slot), U_X2_word_76 mc ms K E x1 n x2 cx zx σ → xI D dA ad 1296 Hs s.heap σ H locs → (cx ≤ mc ∧ zx ≤ ms) → lv_has ls 3 [(0, .ref (ad 9)), (1, va_rf (rgR ad x1)), (2, .int x2)] → W p l e ({ frames := 6, cells := mc, slots := ms, locals := 129 }) s m args below meth c H locs cx zx Q (F0 m 76 ls []) := by
    intro x1 n
    induction n with
    | zero => intro x2 cx zx σ H locs ls hT; exact hT.elim
    | succ n ih =>
      intro x2 cx zx σ H locs ls hT hI hB hl
      unfold U_X2_word_76 at hT
      refine lv_iload_n hx hb dX2_word_76 rfl (lv_at hl 2 rfl) ?_
      refine lv_aload_n hx hb dX2_word_77 rfl (lv_at hl 0 rfl) ?_
      refine xg2_2 (i := 9) hC hI (xst hI (Nat.le_of_ble_eq_true rfl) sl_9) q366 (fun _ h => h) dX2_word_78 ?_
      refine lv_icmp_ge (tgt := 108) hx hb dX2_word_81 (by decide) (fun hc => ?_) (fun hc => ?_)
      · replace hT := hT.1 hc
        refine x_aload_n hx hb dX2_word_108 rfl (lv_at hl 1 rfl) ?_
        obtain ⟨q1, hqe_q1, hT_q1⟩ := hT
        have hl_q1 := hl
        subst hqe_q1
        replace hT := hT_q1
        refine W.eq (g2 := F0 m 109 ls [.ref (ad q1)]) rfl ?_
        have hl : lv_has ls 3 [(0, .ref (ad 9)), (1, .ref (ad q1)), (2, .int x2)] := hl_q1
        obtain ⟨mc4, ms5, hB, hT⟩ := hT
        refine x_call (x_runS hC hI (um_J6_valueOf l D dA ad 1296 Hs hC.2.2 mc4 ms5 σ q1 _ hT) (lw_S q594 q595 q171 q596) 1 hdS_J6_valueOf ⟨rfl, rfl⟩ ⟨Nat.le_of_ble_eq_true rfl, Nat.le_of_ble_eq_true rfl⟩ rfl hl.1 rfl (Nat.le_of_ble_eq_true rfl) hB dX2_word_109) hI (fun r3 σ2 H locs hT hI => ?_)
        refine W.eq (g2 := F0 m 112 ls [va_rf (rgR ad r3)]) rfl ?_
        exact hret r3 _ _ _ _ _ _ _ hT hI hB dX2_word_112
      · replace hT := hT.2 hc
        refine x_aload_n hx hb dX2_word_84 rfl (lv_at hl 1 rfl) ?_
        refine lv_iload_n hx hb dX2_word_85 rfl (lv_at hl 2 rfl) ?_
        refine lv_aload_n hx hb dX2_word_86 rfl (lv_at hl 0 rfl) ?_
        refine xg2_3 (i := 9) hC hI (xst hI (Nat.le_of_ble_eq_true rfl) sl_9) q367 (fun _ h => h) dX2_word_87 ?_
        refine lv_isub hx hb dX2_word_90 ?_
        refine lv_aload_n hx hb dX2_word_91 rfl (lv_at hl 0 rfl) ?_
        refine xg2_7 (i := 9) hC hI (xst hI (Nat.le_of_ble_eq_true rfl) sl_9) q371 (fun _ h => h) dX2_word_92 ?_
        refine xgN0_1 (i := 0) hC hI (xst hI (Nat.le_of_ble_eq_true rfl) sl_0) q471 (fun _ h => h) dX2_word_95 ?_
        refine lv_iload_n hx hb dX2_word_98 rfl (lv_at hl 2 rfl) ?_
        refine x_bald (i := 8) hC hI (xst hI (Nat.le_of_ble_eq_true rfl) sl_8) hT dX2_word_99 (fun hT => ?_)
        refine lv_i2c hx hb dX2_word_100 rfl ?_
        obtain ⟨q6, hqe_q6, hT_q6⟩ := hT
        have hl_q6 := hl
        subst hqe_q6
        replace hT := hT_q6
        refine W.eq (g2 := F0 m 101 ls [.int ((Int32.toUInt32 (gI σ 8 (Int32.toNatClampNeg x2)) % 65536).toInt32), .int (x2 - (gI σ 9 3)), .ref (ad q6)]) rfl ?_
        have hl : lv_has ls 3 [(0, .ref (ad 9)), (1, .ref (ad q6)), (2, .int x2)] := hl_q6
        obtain ⟨hic, hT⟩ := hT
        obtain ⟨hL, hT⟩ := hT
        refine x_cast (i := q6) hC hI hic hL hT dX2_word_101 (fun σ7 H locs hT hI => ?_)
        refine lv_iinc (v := x2 + 1) (lv' := [(2, .int (x2 + 1)), (0, .ref (ad 9)), (1, .ref (ad q6))]) hx hb dX2_word_102 hl (k := 2) rfl rfl (Nat.le_of_ble_eq_true rfl) rfl (fun ls hl => ?_)
        refine lv_goto (tgt := 76) hx hb dX2_word_105 (by decide) ?_
        exact ih (x2 + 1) cx zx σ7 _ _ _ hT hI hB (lv_sub hl [1, 2, 0] rfl)
  have w_32 : ∀ (n : Nat) (cx : Nat) (zx : Nat) (σ : CS) (H : Heap) (locs : List Loc) (ls : Array Slot), U_X2_word_32 mc ms K E n cx zx σ → xI D dA ad 1296 Hs s.heap σ H locs → (cx ≤ mc ∧ zx ≤ ms) → lv_has ls 3 [(0, .ref (ad 9))] → W p l e ({ frames := 6, cells := mc, slots := ms, locals := 129 }) s m args below meth c H locs cx zx Q (F0 m 32 ls []) := by
    intro n
    induction n with
    | zero => intro cx zx σ H locs ls hT; exact hT.elim
    | succ n ih =>
      intro cx zx σ H locs ls hT hI hB hl
      unfold U_X2_word_32 at hT
      refine lv_aload_n hx hb dX2_word_32 rfl (lv_at hl 0 rfl) ?_
      refine lv_aload_n hx hb dX2_word_33 rfl (lv_at hl 0 rfl) ?_
      refine xg2_2 (i := 9) hC hI (xst hI (Nat.le_of_ble_eq_true rfl) sl_9) q366 (fun _ h => h) dX2_word_34 ?_
      refine x_call (x_runV (i := 9) hC hI (xst hI (Nat.le_of_ble_eq_true rfl) sl_9) rfl (um_X2_byteAt l D dA ad Hs hC.2.2 σ (gI σ 9 2) _ hT) (lw_V q568 q570 qs5 q163 q571) 1 hdV_X2_byteAt ⟨rfl, rfl⟩ ⟨Nat.le_of_ble_eq_true rfl, Nat.le_of_ble_eq_true rfl⟩ rfl hl.1 rfl (Nat.le_of_ble_eq_true rfl) hB dX2_word_37) hI (fun r9 σ8 H locs hT hI => ?_)
      refine W.eq (g2 := F0 m 40 ls [.int r9]) rfl ?_
      refine x_call (x_runSN hC hI (um_X0_isLetter l D dA ad 1296 Hs hC.2.2 σ8 r9 _ hT) q584 q585 q158 q586 1 hdS_X0_isLetter ⟨rfl, rfl⟩ ⟨Nat.le_of_ble_eq_true rfl, Nat.le_of_ble_eq_true rfl⟩ rfl hl.1 rfl (Nat.le_of_ble_eq_true rfl) hB dX2_word_40) hI (fun r11 σ10 H locs hT hI => ?_)
      refine W.eq (g2 := F0 m 43 ls [.int r11]) rfl ?_
      refine lv_if_eq (tgt := 59) hx hb dX2_word_43 (by decide) (fun hc => ?_) (fun hc => ?_)
      · replace hT := hT.1 hc
        refine lv_aload_n hx hb dX2_word_59 rfl (lv_at hl 0 rfl) ?_
        refine xg2_2 (i := 9) hC hI (xst hI (Nat.le_of_ble_eq_true rfl) sl_9) q366 (fun _ h => h) dX2_word_60 ?_
        refine lv_aload_n hx hb dX2_word_63 rfl (lv_at hl 0 rfl) ?_
        refine xg2_3 (i := 9) hC hI (xst hI (Nat.le_of_ble_eq_true rfl) sl_9) q367 (fun _ h => h) dX2_word_64 ?_
        refine lv_isub hx hb dX2_word_67 ?_
        have hB := hT.2.2.1
        refine xnewa3 hC hI hT dX2_word_68 (fun σ12 H hT hI => ?_)
        refine lv_astore_n (lv' := [(1, .ref (ad (σ10.1))), (0, .ref (ad 9))]) hx hb dX2_word_70 rfl hl (Nat.le_of_ble_eq_true rfl) rfl (fun ls hl => ?_)
        refine lv_aload_n hx hb dX2_word_71 rfl (lv_at hl 1 rfl) ?_
        refine xg2_3 (i := 9) hC hI (xst hI (Nat.le_of_ble_eq_true rfl) sl_9) q367 (fun _ h => h) dX2_word_72 ?_
        refine lv_istore_n (lv' := [(2, .int (gI σ12 9 3)), (1, .ref (ad (σ10.1))), (0, .ref (ad 9))]) hx hb dX2_word_75 rfl hl (Nat.le_of_ble_eq_true rfl) rfl (fun ls hl => ?_)
        obtain ⟨n76, hT⟩ := hT
        exact w_76 ((σ10.1) + 1) n76 (gI σ12 9 3) (cx + 1) (zx + (Int32.toNatClampNeg ((gI σ10 9 2) - (gI σ10 9 3)))) σ12 _ _ _ hT hI hB (lv_sub hl [2, 1, 0] rfl)
      · replace hT := hT.2 hc
        refine lv_aload_n hx hb dX2_word_46 rfl (lv_at hl 0 rfl) ?_
        refine lv_dup hx hb dX2_word_47 rfl ?_
        refine xg2_2 (i := 9) hC hI (xst hI (Nat.le_of_ble_eq_true rfl) sl_9) q366 (fun _ h => h) dX2_word_48 ?_
        refine lv_iconst (v := 1) hx hb dX2_word_51 (by decide) ?_
        refine lv_iadd hx hb dX2_word_52 ?_
        refine xp2_2 (i := 9) (v := (gI σ10 9 2) + 1) hC hI (Nat.lt_of_lt_of_le (show _ < 1296 from (Nat.le_of_ble_eq_true rfl)) (by decide)) (xst hI (Nat.le_of_ble_eq_true rfl) sl_9) hT q366 (fun _ h => h) dX2_word_53 (fun σ13 H locs hT hI => ?_)
        refine lv_goto (tgt := 32) hx hb dX2_word_56 (by decide) ?_
        exact ih cx zx σ13 _ _ _ hT hI hB (lv_sub hl [0] rfl)
  unfold U_X2_word at hT
  refine lv_aload_n hx hb dX2_word_0 rfl (lv_at hl 0 rfl) ?_
  refine x_call (x_runV (i := 9) hC hI (xst hI (Nat.le_of_ble_eq_true rfl) sl_9) rfl (um_X2_here l D dA ad Hs hC.2.2 σ _ hT) (lw_V q564 q566 qs4 q163 q567) 0 hdV_X2_here ⟨rfl, rfl⟩ ⟨Nat.le_of_ble_eq_true rfl, Nat.le_of_ble_eq_true rfl⟩ rfl hl.1 rfl (Nat.le_of_ble_eq_true rfl) hB dX2_word_1) hI (fun r15 σ14 H locs hT hI => ?_)
  refine W.eq (g2 := F0 m 4 ls [.int r15]) rfl ?_
  refine x_call (x_runSN hC hI (um_X0_isLetter l D dA ad 1296 Hs hC.2.2 σ14 r15 _ hT) q584 q585 q158 q586 1 hdS_X0_isLetter ⟨rfl, rfl⟩ ⟨Nat.le_of_ble_eq_true rfl, Nat.le_of_ble_eq_true rfl⟩ rfl hl.1 rfl (Nat.le_of_ble_eq_true rfl) hB dX2_word_4) hI (fun r17 σ16 H locs hT hI => ?_)
  refine W.eq (g2 := F0 m 7 ls [.int r17]) rfl ?_
  refine lv_if_ne (tgt := 20) hx hb dX2_word_7 (by decide) (fun hc => ?_) (fun hc => ?_)
  · replace hT := hT.1 hc
    refine lv_aload_n hx hb dX2_word_20 rfl (lv_at hl 0 rfl) ?_
    refine t_call (t_runV (i := 9) hC hI (xst hI (Nat.le_of_ble_eq_true rfl) sl_9) rfl (um_X2_parted l D dA ad Hs hC.2.2 σ16 _ _ hT) (lw_V q587 q589 qs9 q163 q590) 0 hdV_X2_parted ⟨rfl, rfl⟩ ⟨Nat.le_of_ble_eq_true rfl, Nat.le_of_ble_eq_true rfl⟩ rfl hl.1 rfl (Nat.le_of_ble_eq_true rfl) hB dX2_word_21) hI (fun σ1 H1 locs1 hE h10 hI => hthr _ _ _ _ _ _ _ _ hE hI h10 hB) (fun _ σ18 H locs hT hI => ?_)
    refine W.eq (g2 := F0 m 24 ls []) rfl ?_
    refine lv_aload_n hx hb dX2_word_24 rfl (lv_at hl 0 rfl) ?_
    refine lv_aload_n hx hb dX2_word_25 rfl (lv_at hl 0 rfl) ?_
    refine xg2_2 (i := 9) hC hI (xst hI (Nat.le_of_ble_eq_true rfl) sl_9) q366 (fun _ h => h) dX2_word_26 ?_
    refine xp2_3 (i := 9) (v := gI σ18 9 2) hC hI (Nat.lt_of_lt_of_le (show _ < 1296 from (Nat.le_of_ble_eq_true rfl)) (by decide)) (xst hI (Nat.le_of_ble_eq_true rfl) sl_9) hT q367 (fun _ h => h) dX2_word_29 (fun σ20 H locs hT hI => ?_)
    obtain ⟨n32, hT⟩ := hT
    exact w_32 n32 0 0 σ20 _ _ _ hT hI hB (lv_sub hl [0] rfl)
  · replace hT := hT.2 hc
    refine lv_aload_n hx hb dX2_word_10 rfl (lv_at hl 0 rfl) ?_
    refine lv_iconst (v := 1) hx hb dX2_word_11 (by decide) ?_
    refine lv_aload_n hx hb dX2_word_12 rfl (lv_at hl 0 rfl) ?_
    refine xg2_2 (i := 9) hC hI (xst hI (Nat.le_of_ble_eq_true rfl) sl_9) q366 (fun _ h => h) dX2_word_13 ?_
    refine x_call (x_runV (i := 9) hC hI (xst hI (Nat.le_of_ble_eq_true rfl) sl_9) rfl (um_X2_wrong l D dA ad Hs hC.2.2 σ16 1 (gI σ16 9 2) _ hT) (lw_V q576 q578 qs7 q163 q579) 2 hdV_X2_wrong ⟨rfl, rfl⟩ ⟨Nat.le_of_ble_eq_true rfl, Nat.le_of_ble_eq_true rfl⟩ rfl hl.1 rfl (Nat.le_of_ble_eq_true rfl) hB dX2_word_16) hI (fun r22 σ21 H locs hT hI => ?_)
    refine W.eq (g2 := F0 m 19 ls [va_rf (rgR ad r22)]) rfl ?_
    obtain ⟨h11, hT⟩ := hT
    refine W.eq (congrArg (fun z => F0 m 19 ls [z]) (xrq h11)) ?_
    exact vq_athrow hx hb dX2_word_19 (hthr _ _ _ _ _ _ _ _ hT hI (xst hI (Nat.le_of_ble_eq_true rfl) sl_10) hB)
set_option maxHeartbeats 4000000 in
set_option maxRecDepth 100000 in
theorem um_X2_name (l : Launch) (D : va_G) (dA : Nat → ClassId) (ad : Nat → Nat) (Hs : Heap) (hA : cAd ad 1296 Hs.size) (mc ms : Nat) (σ : CS) (K : Nat → CS → Prop) (E : CS → Prop) (hT : U_X2_name mc ms σ K E) : vq_Met l yX2_name (ws_ yX2_name cX2_name 2 (some (.object "java/lang/String"))) ({ frames := 7, cells := mc, slots := ms, locals := 151 }) (va_Pc [.ref (ad 9)] (cU D dA ad 1296 Hs σ)) (xQ (rvR ad) K (cU D dA ad 1296 Hs) (cA ad)) (xX D dA ad 1296 Hs E) mc ms (cA ad) := by
  refine xt_r (Or.inl ⟨_, rfl⟩) hA (by decide) rfl (Nat.le_of_ble_eq_true rfl) ?_
  intro p e s m args below meth c Q hC hN hret hthr hI ls hl
  have hx := hC.1.1
  have hb := hC.1.2.1
  have hB : 0 ≤ mc ∧ 0 ≤ ms := ⟨Nat.zero_le _, Nat.zero_le _⟩
  have hl : lv_has ls 2 [(0, .ref (ad 9))] := hl
  unfold U_X2_name at hT
  refine lv_aload_n hx hb dX2_name_0 rfl (lv_at hl 0 rfl) ?_
  obtain ⟨mc3, ms4, hB, hT⟩ := hT
  refine t_call (t_runV (i := 9) hC hI (xst hI (Nat.le_of_ble_eq_true rfl) sl_9) rfl (um_X2_word l D dA ad Hs hC.2.2 mc3 ms4 σ _ _ hT) (lw_V q580 q582 qs8 q163 q583) 0 hdV_X2_word ⟨rfl, rfl⟩ ⟨Nat.le_of_ble_eq_true rfl, Nat.le_of_ble_eq_true rfl⟩ rfl hl.1 rfl (Nat.le_of_ble_eq_true rfl) hB dX2_name_1) hI (fun σ1 H1 locs1 hE h10 hI => hthr _ _ _ _ _ _ _ _ hE hI h10 hB) (fun r2 σ1 H locs hT hI => ?_)
  refine W.eq (g2 := F0 m 4 ls [va_rf (rgR ad r2)]) rfl ?_
  refine x_astore_n (lv' := [(1, va_rf (rgR ad r2)), (0, .ref (ad 9))]) hx hb dX2_name_4 rfl hl (Nat.le_of_ble_eq_true rfl) rfl (fun ls hl => ?_)
  refine x_aload_n hx hb dX2_name_5 rfl (lv_at hl 0 rfl) ?_
  refine x_getsN (w := .ref (ad 1048576)) hC hI (List.mem_of_getElem? (i := 1) rfl) q757 rfl dX2_name_6 ?_
  obtain ⟨q5, hqe_q5, hT_q5⟩ := hT
  have hl_q5 := hl
  subst hqe_q5
  replace hT := hT_q5
  refine W.eq (g2 := F0 m 9 ls [.ref (ad 1048576), .ref (ad q5)]) rfl ?_
  have hl : lv_has ls 2 [(1, .ref (ad q5)), (0, .ref (ad 9))] := hl_q5
  refine x_call (x_runSN hC hI (um_X0_find l D dA ad 1296 Hs hC.2.2 σ1 q5 1048576 _ hT) q759 q760 q158 q761 2 hdS_X0_find ⟨rfl, rfl⟩ ⟨Nat.le_of_ble_eq_true rfl, Nat.le_of_ble_eq_true rfl⟩ rfl hl.1 rfl (Nat.le_of_ble_eq_true rfl) hB dX2_name_9) hI (fun r7 σ6 H locs hT hI => ?_)
  refine W.eq (g2 := F0 m 12 ls [.int r7]) rfl ?_
  refine lv_iconst (v := -1) hx hb dX2_name_12 (by decide) ?_
  refine lv_icmp_eq (tgt := 26) hx hb dX2_name_13 (by decide) (fun hc => ?_) (fun hc => ?_)
  · replace hT := hT.1 hc
    refine lv_aload_n hx hb dX2_name_26 rfl (lv_at hl 0 rfl) ?_
    obtain ⟨hL, hT⟩ := hT
    refine x_call (x_runV (i := q5) hC hI hL rfl (um_J6_length l D dA ad 1296 Hs hC.2.2 σ6 q5 _ hT) (lw_V q763 q764 q765 q171 q766) 0 hdV_J6_length ⟨rfl, rfl⟩ ⟨Nat.le_of_ble_eq_true rfl, Nat.le_of_ble_eq_true rfl⟩ rfl hl.1 rfl (Nat.le_of_ble_eq_true rfl) hB dX2_name_27) hI (fun r9 σ8 H locs hT hI => ?_)
    refine W.eq (g2 := F0 m 30 ls [.int r9]) rfl ?_
    refine lv_bipush (v := 6) hx hb dX2_name_30 (by decide) ?_
    refine lv_icmp_le (tgt := 48) hx hb dX2_name_32 (by decide) (fun hc => ?_) (fun hc => ?_)
    · replace hT := hT.1 hc
      refine lv_aload_n hx hb dX2_name_48 rfl (lv_at hl 0 rfl) ?_
      exact hret (q5 + 1) _ _ _ _ _ _ _ hT hI hB dX2_name_49
    · replace hT := hT.2 hc
      refine lv_aload_n hx hb dX2_name_35 rfl (lv_at hl 1 rfl) ?_
      refine lv_iconst (v := 1) hx hb dX2_name_36 (by decide) ?_
      refine lv_aload_n hx hb dX2_name_37 rfl (lv_at hl 1 rfl) ?_
      refine xg2_3 (i := 9) hC hI (xst hI (Nat.le_of_ble_eq_true rfl) sl_9) q367 (fun _ h => h) dX2_name_38 ?_
      refine lv_bipush (v := 6) hx hb dX2_name_41 (by decide) ?_
      refine lv_iadd hx hb dX2_name_43 ?_
      refine x_call (x_runV (i := 9) hC hI (xst hI (Nat.le_of_ble_eq_true rfl) sl_9) rfl (um_X2_wrong l D dA ad Hs hC.2.2 σ8 1 ((gI σ8 9 3) + 6) _ hT) (lw_V q576 q578 qs7 q163 q579) 2 hdV_X2_wrong ⟨rfl, rfl⟩ ⟨Nat.le_of_ble_eq_true rfl, Nat.le_of_ble_eq_true rfl⟩ rfl hl.1 rfl (Nat.le_of_ble_eq_true rfl) hB dX2_name_44) hI (fun r11 σ10 H locs hT hI => ?_)
      refine W.eq (g2 := F0 m 47 ls [va_rf (rgR ad r11)]) rfl ?_
      obtain ⟨h11, hT⟩ := hT
      refine W.eq (congrArg (fun z => F0 m 47 ls [z]) (xrq h11)) ?_
      exact vq_athrow hx hb dX2_name_47 (hthr _ _ _ _ _ _ _ _ hT hI (xst hI (Nat.le_of_ble_eq_true rfl) sl_10) hB)
  · replace hT := hT.2 hc
    refine lv_aload_n hx hb dX2_name_16 rfl (lv_at hl 1 rfl) ?_
    refine lv_iconst (v := 1) hx hb dX2_name_17 (by decide) ?_
    refine lv_aload_n hx hb dX2_name_18 rfl (lv_at hl 1 rfl) ?_
    refine xg2_3 (i := 9) hC hI (xst hI (Nat.le_of_ble_eq_true rfl) sl_9) q367 (fun _ h => h) dX2_name_19 ?_
    refine x_call (x_runV (i := 9) hC hI (xst hI (Nat.le_of_ble_eq_true rfl) sl_9) rfl (um_X2_wrong l D dA ad Hs hC.2.2 σ6 1 (gI σ6 9 3) _ hT) (lw_V q576 q578 qs7 q163 q579) 2 hdV_X2_wrong ⟨rfl, rfl⟩ ⟨Nat.le_of_ble_eq_true rfl, Nat.le_of_ble_eq_true rfl⟩ rfl hl.1 rfl (Nat.le_of_ble_eq_true rfl) hB dX2_name_22) hI (fun r13 σ12 H locs hT hI => ?_)
    refine W.eq (g2 := F0 m 25 ls [va_rf (rgR ad r13)]) rfl ?_
    obtain ⟨h11, hT⟩ := hT
    refine W.eq (congrArg (fun z => F0 m 25 ls [z]) (xrq h11)) ?_
    exact vq_athrow hx hb dX2_name_25 (hthr _ _ _ _ _ _ _ _ hT hI (xst hI (Nat.le_of_ble_eq_true rfl) sl_10) hB)
set_option maxHeartbeats 4000000 in
set_option maxRecDepth 100000 in
theorem um_X2_fresh (l : Launch) (D : va_G) (dA : Nat → ClassId) (ad : Nat → Nat) (Hs : Heap) (hA : cAd ad 1296 Hs.size) (mc ms : Nat) (σ : CS) (K : Nat → CS → Prop) (E : CS → Prop) (hT : U_X2_fresh mc ms σ K E) : vq_Met l yX2_fresh (ws_ yX2_fresh cX2_fresh 2 (some (.object "java/lang/String"))) ({ frames := 8, cells := mc, slots := ms, locals := 172 }) (va_Pc [.ref (ad 9)] (cU D dA ad 1296 Hs σ)) (xQ (rvR ad) K (cU D dA ad 1296 Hs) (cA ad)) (xX D dA ad 1296 Hs E) mc ms (cA ad) := by
  refine xt_r (Or.inl ⟨_, rfl⟩) hA (by decide) rfl (Nat.le_of_ble_eq_true rfl) ?_
  intro p e s m args below meth c Q hC hN hret hthr hI ls hl
  have hx := hC.1.1
  have hb := hC.1.2.1
  have hB : 0 ≤ mc ∧ 0 ≤ ms := ⟨Nat.zero_le _, Nat.zero_le _⟩
  have hl : lv_has ls 2 [(0, .ref (ad 9))] := hl
  unfold U_X2_fresh at hT
  refine lv_aload_n hx hb dX2_fresh_0 rfl (lv_at hl 0 rfl) ?_
  obtain ⟨mc3, ms4, hB, hT⟩ := hT
  refine t_call (t_runV (i := 9) hC hI (xst hI (Nat.le_of_ble_eq_true rfl) sl_9) rfl (um_X2_name l D dA ad Hs hC.2.2 mc3 ms4 σ _ _ hT) (lw_V q753 q755 qs12 q163 q756) 0 hdV_X2_name ⟨rfl, rfl⟩ ⟨Nat.le_of_ble_eq_true rfl, Nat.le_of_ble_eq_true rfl⟩ rfl hl.1 rfl (Nat.le_of_ble_eq_true rfl) hB dX2_fresh_1) hI (fun σ1 H1 locs1 hE h10 hI => hthr _ _ _ _ _ _ _ _ hE hI h10 hB) (fun r2 σ1 H locs hT hI => ?_)
  refine W.eq (g2 := F0 m 4 ls [va_rf (rgR ad r2)]) rfl ?_
  refine x_astore_n (lv' := [(1, va_rf (rgR ad r2)), (0, .ref (ad 9))]) hx hb dX2_fresh_4 rfl hl (Nat.le_of_ble_eq_true rfl) rfl (fun ls hl => ?_)
  refine lv_aload_n hx hb dX2_fresh_5 rfl (lv_at hl 1 rfl) ?_
  refine xg2_6 (i := 9) hC hI (xst hI (Nat.le_of_ble_eq_true rfl) sl_9) q370 (fun _ h => h) dX2_fresh_6 ?_
  refine x_aload_n hx hb dX2_fresh_9 rfl (lv_at hl 0 rfl) ?_
  obtain ⟨q5, hq6, hT⟩ := hT
  refine W.eq (congrArg (fun z => F0 m 10 ls [va_rf (rgR ad r2), z]) (xrq hq6)) ?_
  obtain ⟨q7, hqe_q7, hT_q7⟩ := hT
  have hl_q7 := hl
  subst hqe_q7
  replace hT := hT_q7
  refine W.eq (g2 := F0 m 10 ls [.ref (ad q7), .ref (ad q5)]) rfl ?_
  have hl : lv_has ls 2 [(1, .ref (ad q7)), (0, .ref (ad 9))] := hl_q7
  obtain ⟨hL, hT⟩ := hT
  refine x_call (x_runV (i := q5) hC hI hL rfl (um_X1_isNamed l D dA ad 1296 Hs hC.2.2 σ1 q5 q7 _ hT) (lw_V q771 q772 q773 q159 q774) 1 hdV_X1_isNamed ⟨rfl, rfl⟩ ⟨Nat.le_of_ble_eq_true rfl, Nat.le_of_ble_eq_true rfl⟩ rfl hl.1 rfl (Nat.le_of_ble_eq_true rfl) hB dX2_fresh_10) hI (fun r9 σ8 H locs hT hI => ?_)
  refine W.eq (g2 := F0 m 13 ls [.int r9]) rfl ?_
  refine lv_if_eq (tgt := 26) hx hb dX2_fresh_13 (by decide) (fun hc => ?_) (fun hc => ?_)
  · replace hT := hT.1 hc
    refine lv_aload_n hx hb dX2_fresh_26 rfl (lv_at hl 0 rfl) ?_
    exact hret (q7 + 1) _ _ _ _ _ _ _ hT hI hB dX2_fresh_27
  · replace hT := hT.2 hc
    refine lv_aload_n hx hb dX2_fresh_16 rfl (lv_at hl 1 rfl) ?_
    refine lv_iconst (v := 3) hx hb dX2_fresh_17 (by decide) ?_
    refine lv_aload_n hx hb dX2_fresh_18 rfl (lv_at hl 1 rfl) ?_
    refine xg2_3 (i := 9) hC hI (xst hI (Nat.le_of_ble_eq_true rfl) sl_9) q367 (fun _ h => h) dX2_fresh_19 ?_
    refine x_call (x_runV (i := 9) hC hI (xst hI (Nat.le_of_ble_eq_true rfl) sl_9) rfl (um_X2_wrong l D dA ad Hs hC.2.2 σ8 3 (gI σ8 9 3) _ hT) (lw_V q576 q578 qs7 q163 q579) 2 hdV_X2_wrong ⟨rfl, rfl⟩ ⟨Nat.le_of_ble_eq_true rfl, Nat.le_of_ble_eq_true rfl⟩ rfl hl.1 rfl (Nat.le_of_ble_eq_true rfl) hB dX2_fresh_22) hI (fun r11 σ10 H locs hT hI => ?_)
    refine W.eq (g2 := F0 m 25 ls [va_rf (rgR ad r11)]) rfl ?_
    obtain ⟨h11, hT⟩ := hT
    refine W.eq (congrArg (fun z => F0 m 25 ls [z]) (xrq h11)) ?_
    exact vq_athrow hx hb dX2_fresh_25 (hthr _ _ _ _ _ _ _ _ hT hI (xst hI (Nat.le_of_ble_eq_true rfl) sl_10) hB)
set_option maxHeartbeats 4000000 in
set_option maxRecDepth 100000 in
theorem um_X2_number_2 (l : Launch) (D : va_G) (dA : Nat → ClassId) (ad : Nat → Nat) (Hs : Heap) (hA : cAd ad 1296 Hs.size) (σ : CS) (x1 : Int32) (x2 : Int32) (K : Int32 → CS → Prop) (E : CS → Prop) (hT : U_X2_number_2 σ x1 x2 K E) : vq_Met l yX2_number_2 (ws_ yX2_number_2 cX2_number_2 4 (some .int)) ({ frames := 3, cells := 0, slots := 0, locals := 54 }) (va_Pc [.ref (ad 9), .int x1, .int x2] (cU D dA ad 1296 Hs σ)) (xQ rvI K (cU D dA ad 1296 Hs) (cA ad)) (xX D dA ad 1296 Hs E) 0 0 (cA ad) := by
  refine xt_i hA (by decide) rfl (Nat.le_of_ble_eq_true rfl) ?_
  intro p e s m args below meth c Q hC hN hret hthr hI ls hl
  have hx := hC.1.1
  have hb := hC.1.2.1
  have hB : 0 ≤ 0 ∧ 0 ≤ 0 := ⟨Nat.zero_le _, Nat.zero_le _⟩
  have hl : lv_has ls 4 [(0, .ref (ad 9)), (1, .int x1), (2, .int x2)] := hl
  have w_34 : ∀ (x1 : Int32) (x2 : Int32) (n : Nat) (x3 : Int32) (σ : CS) (H : Heap) (locs : List Loc) (ls : Array Slot), U_X2_number_2_34 K E x1 x2 n x3 σ → xI D dA ad 1296 Hs s.heap σ H locs → lv_has ls 4 [(0, .ref (ad 9)), (1, .int x1), (2, .int x2), (3, .int x3)] → W p l e ({ frames := 3, cells := 0, slots := 0, locals := 54 }) s m args below meth c H locs 0 0 Q (F0 m 34 ls []) := by
    intro x1 x2 n
    induction n with
    | zero => intro x3 σ H locs ls hT; exact hT.elim
    | succ n ih =>
      intro x3 σ H locs ls hT hI hl
      unfold U_X2_number_2_34 at hT
      refine lv_aload_n hx hb dX2_number_2_34 rfl (lv_at hl 0 rfl) ?_
      refine lv_aload_n hx hb dX2_number_2_35 rfl (lv_at hl 0 rfl) ?_
      refine xg2_2 (i := 9) hC hI (xst hI (Nat.le_of_ble_eq_true rfl) sl_9) q366 (fun _ h => h) dX2_number_2_36 ?_
      refine x_call (x_runV (i := 9) hC hI (xst hI (Nat.le_of_ble_eq_true rfl) sl_9) rfl (um_X2_byteAt l D dA ad Hs hC.2.2 σ (gI σ 9 2) _ hT) (lw_V q568 q570 qs5 q163 q571) 1 hdV_X2_byteAt ⟨rfl, rfl⟩ ⟨Nat.le_of_ble_eq_true rfl, Nat.le_of_ble_eq_true rfl⟩ rfl hl.1 rfl (Nat.le_of_ble_eq_true rfl) hB dX2_number_2_39) hI (fun r2 σ1 H locs hT hI => ?_)
      refine W.eq (g2 := F0 m 42 ls [.int r2]) rfl ?_
      refine x_call (x_runSN hC hI (um_X0_isDigit l D dA ad 1296 Hs hC.2.2 σ1 r2 _ hT) q591 q592 q158 q593 1 hdS_X0_isDigit ⟨rfl, rfl⟩ ⟨Nat.le_of_ble_eq_true rfl, Nat.le_of_ble_eq_true rfl⟩ rfl hl.1 rfl (Nat.le_of_ble_eq_true rfl) hB dX2_number_2_42) hI (fun r4 σ3 H locs hT hI => ?_)
      refine W.eq (g2 := F0 m 45 ls [.int r4]) rfl ?_
      refine lv_if_eq (tgt := 101) hx hb dX2_number_2_45 (by decide) (fun hc => ?_) (fun hc => ?_)
      · replace hT := hT.1 hc
        refine lv_iload_n hx hb dX2_number_2_101 rfl (lv_at hl 3 rfl) ?_
        refine lv_iload_n hx hb dX2_number_2_102 rfl (lv_at hl 1 rfl) ?_
        refine lv_iload_n hx hb dX2_number_2_103 rfl (lv_at hl 2 rfl) ?_
        refine x_call (x_runSN hC hI (um_X0_is l D dA ad 1296 Hs hC.2.2 σ3 x3 x1 x2 _ hT) q814 q815 q158 q816 3 hdS_X0_is ⟨rfl, rfl⟩ ⟨Nat.le_of_ble_eq_true rfl, Nat.le_of_ble_eq_true rfl⟩ rfl hl.1 rfl (Nat.le_of_ble_eq_true rfl) hB dX2_number_2_104) hI (fun r6 σ5 H locs hT hI => ?_)
        refine W.eq (g2 := F0 m 107 ls [.int r6]) rfl ?_
        refine lv_if_ne (tgt := 120) hx hb dX2_number_2_107 (by decide) (fun hc => ?_) (fun hc => ?_)
        · replace hT := hT.1 hc
          refine lv_iload_n hx hb dX2_number_2_120 rfl (lv_at hl 3 rfl) ?_
          exact hret _ _ _ _ _ _ _ _ hT hI hB dX2_number_2_121
        · replace hT := hT.2 hc
          refine lv_aload_n hx hb dX2_number_2_110 rfl (lv_at hl 0 rfl) ?_
          refine lv_iconst (v := 2) hx hb dX2_number_2_111 (by decide) ?_
          refine lv_aload_n hx hb dX2_number_2_112 rfl (lv_at hl 0 rfl) ?_
          refine xg2_3 (i := 9) hC hI (xst hI (Nat.le_of_ble_eq_true rfl) sl_9) q367 (fun _ h => h) dX2_number_2_113 ?_
          refine x_call (x_runV (i := 9) hC hI (xst hI (Nat.le_of_ble_eq_true rfl) sl_9) rfl (um_X2_wrong l D dA ad Hs hC.2.2 σ5 2 (gI σ5 9 3) _ hT) (lw_V q576 q578 qs7 q163 q579) 2 hdV_X2_wrong ⟨rfl, rfl⟩ ⟨Nat.le_of_ble_eq_true rfl, Nat.le_of_ble_eq_true rfl⟩ rfl hl.1 rfl (Nat.le_of_ble_eq_true rfl) hB dX2_number_2_116) hI (fun r8 σ7 H locs hT hI => ?_)
          refine W.eq (g2 := F0 m 119 ls [va_rf (rgR ad r8)]) rfl ?_
          obtain ⟨h11, hT⟩ := hT
          refine W.eq (congrArg (fun z => F0 m 119 ls [z]) (xrq h11)) ?_
          exact vq_athrow hx hb dX2_number_2_119 (hthr _ _ _ _ _ _ _ _ hT hI (xst hI (Nat.le_of_ble_eq_true rfl) sl_10) hB)
      · replace hT := hT.2 hc
        refine lv_aload_n hx hb dX2_number_2_48 rfl (lv_at hl 0 rfl) ?_
        refine xg2_2 (i := 9) hC hI (xst hI (Nat.le_of_ble_eq_true rfl) sl_9) q366 (fun _ h => h) dX2_number_2_49 ?_
        refine lv_aload_n hx hb dX2_number_2_52 rfl (lv_at hl 0 rfl) ?_
        refine xg2_3 (i := 9) hC hI (xst hI (Nat.le_of_ble_eq_true rfl) sl_9) q367 (fun _ h => h) dX2_number_2_53 ?_
        refine lv_isub hx hb dX2_number_2_56 ?_
        refine lv_iconst (v := 4) hx hb dX2_number_2_57 (by decide) ?_
        refine lv_icmp_ne (tgt := 71) hx hb dX2_number_2_58 (by decide) (fun hc => ?_) (fun hc => ?_)
        · replace hT := hT.1 hc
          refine lv_bipush (v := 10) hx hb dX2_number_2_71 (by decide) ?_
          refine lv_iload_n hx hb dX2_number_2_73 rfl (lv_at hl 3 rfl) ?_
          refine lv_imul hx hb dX2_number_2_74 ?_
          refine lv_aload_n hx hb dX2_number_2_75 rfl (lv_at hl 0 rfl) ?_
          refine lv_aload_n hx hb dX2_number_2_76 rfl (lv_at hl 0 rfl) ?_
          refine xg2_2 (i := 9) hC hI (xst hI (Nat.le_of_ble_eq_true rfl) sl_9) q366 (fun _ h => h) dX2_number_2_77 ?_
          refine x_call (x_runV (i := 9) hC hI (xst hI (Nat.le_of_ble_eq_true rfl) sl_9) rfl (um_X2_byteAt l D dA ad Hs hC.2.2 σ3 (gI σ3 9 2) _ hT) (lw_V q568 q570 qs5 q163 q571) 1 hdV_X2_byteAt ⟨rfl, rfl⟩ ⟨Nat.le_of_ble_eq_true rfl, Nat.le_of_ble_eq_true rfl⟩ rfl hl.1 rfl (Nat.le_of_ble_eq_true rfl) hB dX2_number_2_80) hI (fun r10 σ9 H locs hT hI => ?_)
          refine W.eq (g2 := F0 m 83 ls [.int r10, .int (10 * x3)]) rfl ?_
          refine lv_iadd hx hb dX2_number_2_83 ?_
          refine lv_bipush (v := 48) hx hb dX2_number_2_84 (by decide) ?_
          refine lv_isub hx hb dX2_number_2_86 ?_
          refine lv_istore_n (lv' := [(3, .int (((10 * x3) + r10) - 48)), (0, .ref (ad 9)), (1, .int x1), (2, .int x2)]) hx hb dX2_number_2_87 rfl hl (Nat.le_of_ble_eq_true rfl) rfl (fun ls hl => ?_)
          refine lv_aload_n hx hb dX2_number_2_88 rfl (lv_at hl 1 rfl) ?_
          refine lv_dup hx hb dX2_number_2_89 rfl ?_
          refine xg2_2 (i := 9) hC hI (xst hI (Nat.le_of_ble_eq_true rfl) sl_9) q366 (fun _ h => h) dX2_number_2_90 ?_
          refine lv_iconst (v := 1) hx hb dX2_number_2_93 (by decide) ?_
          refine lv_iadd hx hb dX2_number_2_94 ?_
          refine xp2_2 (i := 9) (v := (gI σ9 9 2) + 1) hC hI (Nat.lt_of_lt_of_le (show _ < 1296 from (Nat.le_of_ble_eq_true rfl)) (by decide)) (xst hI (Nat.le_of_ble_eq_true rfl) sl_9) hT q366 (fun _ h => h) dX2_number_2_95 (fun σ11 H locs hT hI => ?_)
          refine lv_goto (tgt := 34) hx hb dX2_number_2_98 (by decide) ?_
          exact ih (((10 * x3) + r10) - 48) σ11 _ _ _ hT hI (lv_sub hl [1, 2, 3, 0] rfl)
        · replace hT := hT.2 hc
          refine lv_aload_n hx hb dX2_number_2_61 rfl (lv_at hl 0 rfl) ?_
          refine lv_iconst (v := 1) hx hb dX2_number_2_62 (by decide) ?_
          refine lv_aload_n hx hb dX2_number_2_63 rfl (lv_at hl 0 rfl) ?_
          refine xg2_2 (i := 9) hC hI (xst hI (Nat.le_of_ble_eq_true rfl) sl_9) q366 (fun _ h => h) dX2_number_2_64 ?_
          refine x_call (x_runV (i := 9) hC hI (xst hI (Nat.le_of_ble_eq_true rfl) sl_9) rfl (um_X2_wrong l D dA ad Hs hC.2.2 σ3 1 (gI σ3 9 2) _ hT) (lw_V q576 q578 qs7 q163 q579) 2 hdV_X2_wrong ⟨rfl, rfl⟩ ⟨Nat.le_of_ble_eq_true rfl, Nat.le_of_ble_eq_true rfl⟩ rfl hl.1 rfl (Nat.le_of_ble_eq_true rfl) hB dX2_number_2_67) hI (fun r13 σ12 H locs hT hI => ?_)
          refine W.eq (g2 := F0 m 70 ls [va_rf (rgR ad r13)]) rfl ?_
          obtain ⟨h11, hT⟩ := hT
          refine W.eq (congrArg (fun z => F0 m 70 ls [z]) (xrq h11)) ?_
          exact vq_athrow hx hb dX2_number_2_70 (hthr _ _ _ _ _ _ _ _ hT hI (xst hI (Nat.le_of_ble_eq_true rfl) sl_10) hB)
  unfold U_X2_number_2 at hT
  refine lv_aload_n hx hb dX2_number_2_0 rfl (lv_at hl 0 rfl) ?_
  refine x_call (x_runV (i := 9) hC hI (xst hI (Nat.le_of_ble_eq_true rfl) sl_9) rfl (um_X2_here l D dA ad Hs hC.2.2 σ _ hT) (lw_V q564 q566 qs4 q163 q567) 0 hdV_X2_here ⟨rfl, rfl⟩ ⟨Nat.le_of_ble_eq_true rfl, Nat.le_of_ble_eq_true rfl⟩ rfl hl.1 rfl (Nat.le_of_ble_eq_true rfl) hB dX2_number_2_1) hI (fun r15 σ14 H locs hT hI => ?_)
  refine W.eq (g2 := F0 m 4 ls [.int r15]) rfl ?_
  refine x_call (x_runSN hC hI (um_X0_isDigit l D dA ad 1296 Hs hC.2.2 σ14 r15 _ hT) q591 q592 q158 q593 1 hdS_X0_isDigit ⟨rfl, rfl⟩ ⟨Nat.le_of_ble_eq_true rfl, Nat.le_of_ble_eq_true rfl⟩ rfl hl.1 rfl (Nat.le_of_ble_eq_true rfl) hB dX2_number_2_4) hI (fun r17 σ16 H locs hT hI => ?_)
  refine W.eq (g2 := F0 m 7 ls [.int r17]) rfl ?_
  refine lv_if_ne (tgt := 20) hx hb dX2_number_2_7 (by decide) (fun hc => ?_) (fun hc => ?_)
  · replace hT := hT.1 hc
    refine lv_aload_n hx hb dX2_number_2_20 rfl (lv_at hl 0 rfl) ?_
    refine t_call (t_runV (i := 9) hC hI (xst hI (Nat.le_of_ble_eq_true rfl) sl_9) rfl (um_X2_parted l D dA ad Hs hC.2.2 σ16 _ _ hT) (lw_V q587 q589 qs9 q163 q590) 0 hdV_X2_parted ⟨rfl, rfl⟩ ⟨Nat.le_of_ble_eq_true rfl, Nat.le_of_ble_eq_true rfl⟩ rfl hl.1 rfl (Nat.le_of_ble_eq_true rfl) hB dX2_number_2_21) hI (fun σ1 H1 locs1 hE h10 hI => hthr _ _ _ _ _ _ _ _ hE hI h10 hB) (fun _ σ18 H locs hT hI => ?_)
    refine W.eq (g2 := F0 m 24 ls []) rfl ?_
    refine lv_aload_n hx hb dX2_number_2_24 rfl (lv_at hl 0 rfl) ?_
    refine lv_aload_n hx hb dX2_number_2_25 rfl (lv_at hl 0 rfl) ?_
    refine xg2_2 (i := 9) hC hI (xst hI (Nat.le_of_ble_eq_true rfl) sl_9) q366 (fun _ h => h) dX2_number_2_26 ?_
    refine xp2_3 (i := 9) (v := gI σ18 9 2) hC hI (Nat.lt_of_lt_of_le (show _ < 1296 from (Nat.le_of_ble_eq_true rfl)) (by decide)) (xst hI (Nat.le_of_ble_eq_true rfl) sl_9) hT q367 (fun _ h => h) dX2_number_2_29 (fun σ20 H locs hT hI => ?_)
    refine lv_iconst (v := 0) hx hb dX2_number_2_32 (by decide) ?_
    refine lv_istore_n (lv' := [(3, .int 0), (0, .ref (ad 9)), (1, .int x1), (2, .int x2)]) hx hb dX2_number_2_33 rfl hl (Nat.le_of_ble_eq_true rfl) rfl (fun ls hl => ?_)
    obtain ⟨n34, hT⟩ := hT
    exact w_34 x1 x2 n34 0 σ20 _ _ _ hT hI (lv_sub hl [1, 2, 3, 0] rfl)
  · replace hT := hT.2 hc
    refine lv_aload_n hx hb dX2_number_2_10 rfl (lv_at hl 0 rfl) ?_
    refine lv_iconst (v := 1) hx hb dX2_number_2_11 (by decide) ?_
    refine lv_aload_n hx hb dX2_number_2_12 rfl (lv_at hl 0 rfl) ?_
    refine xg2_2 (i := 9) hC hI (xst hI (Nat.le_of_ble_eq_true rfl) sl_9) q366 (fun _ h => h) dX2_number_2_13 ?_
    refine x_call (x_runV (i := 9) hC hI (xst hI (Nat.le_of_ble_eq_true rfl) sl_9) rfl (um_X2_wrong l D dA ad Hs hC.2.2 σ16 1 (gI σ16 9 2) _ hT) (lw_V q576 q578 qs7 q163 q579) 2 hdV_X2_wrong ⟨rfl, rfl⟩ ⟨Nat.le_of_ble_eq_true rfl, Nat.le_of_ble_eq_true rfl⟩ rfl hl.1 rfl (Nat.le_of_ble_eq_true rfl) hB dX2_number_2_16) hI (fun r22 σ21 H locs hT hI => ?_)
    refine W.eq (g2 := F0 m 19 ls [va_rf (rgR ad r22)]) rfl ?_
    obtain ⟨h11, hT⟩ := hT
    refine W.eq (congrArg (fun z => F0 m 19 ls [z]) (xrq h11)) ?_
    exact vq_athrow hx hb dX2_number_2_19 (hthr _ _ _ _ _ _ _ _ hT hI (xst hI (Nat.le_of_ble_eq_true rfl) sl_10) hB)
set_option maxHeartbeats 4000000 in
set_option maxRecDepth 100000 in
theorem um_X2_word_2 (l : Launch) (D : va_G) (dA : Nat → ClassId) (ad : Nat → Nat) (Hs : Heap) (hA : cAd ad 1296 Hs.size) (mc ms : Nat) (σ : CS) (x1 : Nat) (K : Unit → CS → Prop) (E : CS → Prop) (hT : U_X2_word_2 mc ms σ x1 K E) : vq_Met l yX2_word_2 (ws_ yX2_word_2 cX2_word_2 2 (none)) ({ frames := 7, cells := mc, slots := ms, locals := 151 }) (va_Pc [.ref (ad 9), .ref (ad x1)] (cU D dA ad 1296 Hs σ)) (xQ rvU K (cU D dA ad 1296 Hs) (cA ad)) (xX D dA ad 1296 Hs E) mc ms (cA ad) := by
  refine xt_v hA (by decide) rfl (Nat.le_of_ble_eq_true rfl) ?_
  intro p e s m args below meth c Q hC hN hret hthr hI ls hl
  have hx := hC.1.1
  have hb := hC.1.2.1
  have hB : 0 ≤ mc ∧ 0 ≤ ms := ⟨Nat.zero_le _, Nat.zero_le _⟩
  have hl : lv_has ls 2 [(0, .ref (ad 9)), (1, .ref (ad x1))] := hl
  unfold U_X2_word_2 at hT
  refine lv_aload_n hx hb dX2_word_2_0 rfl (lv_at hl 0 rfl) ?_
  obtain ⟨mc3, ms4, hB, hT⟩ := hT
  refine t_call (t_runV (i := 9) hC hI (xst hI (Nat.le_of_ble_eq_true rfl) sl_9) rfl (um_X2_word l D dA ad Hs hC.2.2 mc3 ms4 σ _ _ hT) (lw_V q580 q582 qs8 q163 q583) 0 hdV_X2_word ⟨rfl, rfl⟩ ⟨Nat.le_of_ble_eq_true rfl, Nat.le_of_ble_eq_true rfl⟩ rfl hl.1 rfl (Nat.le_of_ble_eq_true rfl) hB dX2_word_2_1) hI (fun σ1 H1 locs1 hE h10 hI => hthr _ _ _ _ _ _ _ _ hE hI h10 hB) (fun r2 σ1 H locs hT hI => ?_)
  refine W.eq (g2 := F0 m 4 ls [va_rf (rgR ad r2)]) rfl ?_
  refine lv_aload_n hx hb dX2_word_2_4 rfl (lv_at hl 1 rfl) ?_
  obtain ⟨q5, hqe_q5, hT_q5⟩ := hT
  have hl_q5 := hl
  subst hqe_q5
  replace hT := hT_q5
  refine W.eq (g2 := F0 m 5 ls [.ref (ad x1), .ref (ad q5)]) rfl ?_
  have hl : lv_has ls 2 [(0, .ref (ad 9)), (1, .ref (ad x1))] := hl_q5
  obtain ⟨hL, hT⟩ := hT
  refine x_call (x_runV (i := q5) hC hI hL rfl (um_J6_equals l D dA ad 1296 Hs hC.2.2 σ1 q5 x1 _ hT) (lw_V q730 q731 q732 q171 q733) 1 hdV_J6_equals ⟨rfl, rfl⟩ ⟨Nat.le_of_ble_eq_true rfl, Nat.le_of_ble_eq_true rfl⟩ rfl hl.1 rfl (Nat.le_of_ble_eq_true rfl) hB dX2_word_2_5) hI (fun r7 σ6 H locs hT hI => ?_)
  refine W.eq (g2 := F0 m 8 ls [.int r7]) rfl ?_
  refine lv_if_ne (tgt := 21) hx hb dX2_word_2_8 (by decide) (fun hc => ?_) (fun hc => ?_)
  · replace hT := hT.1 hc
    exact hret _ _ _ _ _ _ _ _ hT hI hB dX2_word_2_21
  · replace hT := hT.2 hc
    refine lv_aload_n hx hb dX2_word_2_11 rfl (lv_at hl 0 rfl) ?_
    refine lv_iconst (v := 1) hx hb dX2_word_2_12 (by decide) ?_
    refine lv_aload_n hx hb dX2_word_2_13 rfl (lv_at hl 0 rfl) ?_
    refine xg2_3 (i := 9) hC hI (xst hI (Nat.le_of_ble_eq_true rfl) sl_9) q367 (fun _ h => h) dX2_word_2_14 ?_
    refine x_call (x_runV (i := 9) hC hI (xst hI (Nat.le_of_ble_eq_true rfl) sl_9) rfl (um_X2_wrong l D dA ad Hs hC.2.2 σ6 1 (gI σ6 9 3) _ hT) (lw_V q576 q578 qs7 q163 q579) 2 hdV_X2_wrong ⟨rfl, rfl⟩ ⟨Nat.le_of_ble_eq_true rfl, Nat.le_of_ble_eq_true rfl⟩ rfl hl.1 rfl (Nat.le_of_ble_eq_true rfl) hB dX2_word_2_17) hI (fun r9 σ8 H locs hT hI => ?_)
    refine W.eq (g2 := F0 m 20 ls [va_rf (rgR ad r9)]) rfl ?_
    obtain ⟨h11, hT⟩ := hT
    refine W.eq (congrArg (fun z => F0 m 20 ls [z]) (xrq h11)) ?_
    exact vq_athrow hx hb dX2_word_2_20 (hthr _ _ _ _ _ _ _ _ hT hI (xst hI (Nat.le_of_ble_eq_true rfl) sl_10) hB)
set_option maxHeartbeats 4000000 in
set_option maxRecDepth 100000 in
theorem um_X2_number (l : Launch) (D : va_G) (dA : Nat → ClassId) (ad : Nat → Nat) (Hs : Heap) (hA : cAd ad 1296 Hs.size) (mc ms : Nat) (σ : CS) (x1 : Nat) (x2 : Int32) (x3 : Int32) (K : Int32 → CS → Prop) (E : CS → Prop) (hT : U_X2_number mc ms σ x1 x2 x3 K E) : vq_Met l yX2_number (ws_ yX2_number cX2_number 4 (some .int)) ({ frames := 8, cells := mc, slots := ms, locals := 172 }) (va_Pc [.ref (ad 9), .ref (ad x1), .int x2, .int x3] (cU D dA ad 1296 Hs σ)) (xQ rvI K (cU D dA ad 1296 Hs) (cA ad)) (xX D dA ad 1296 Hs E) mc ms (cA ad) := by
  refine xt_i hA (by decide) rfl (Nat.le_of_ble_eq_true rfl) ?_
  intro p e s m args below meth c Q hC hN hret hthr hI ls hl
  have hx := hC.1.1
  have hb := hC.1.2.1
  have hB : 0 ≤ mc ∧ 0 ≤ ms := ⟨Nat.zero_le _, Nat.zero_le _⟩
  have hl : lv_has ls 4 [(0, .ref (ad 9)), (1, .ref (ad x1)), (2, .int x2), (3, .int x3)] := hl
  unfold U_X2_number at hT
  refine lv_aload_n hx hb dX2_number_0 rfl (lv_at hl 0 rfl) ?_
  refine lv_aload_n hx hb dX2_number_1 rfl (lv_at hl 1 rfl) ?_
  obtain ⟨mc3, ms4, hB, hT⟩ := hT
  refine t_call (t_runV (i := 9) hC hI (xst hI (Nat.le_of_ble_eq_true rfl) sl_9) rfl (um_X2_word_2 l D dA ad Hs hC.2.2 mc3 ms4 σ x1 _ _ hT) (lw_V q806 q808 qs14 q163 q809) 1 hdV_X2_word_2 ⟨rfl, rfl⟩ ⟨Nat.le_of_ble_eq_true rfl, Nat.le_of_ble_eq_true rfl⟩ rfl hl.1 rfl (Nat.le_of_ble_eq_true rfl) hB dX2_number_2) hI (fun σ1 H1 locs1 hE h10 hI => hthr _ _ _ _ _ _ _ _ hE hI h10 hB) (fun _ σ1 H locs hT hI => ?_)
  refine W.eq (g2 := F0 m 5 ls []) rfl ?_
  refine lv_aload_n hx hb dX2_number_5 rfl (lv_at hl 0 rfl) ?_
  refine lv_iload_n hx hb dX2_number_6 rfl (lv_at hl 2 rfl) ?_
  refine lv_iload_n hx hb dX2_number_7 rfl (lv_at hl 3 rfl) ?_
  refine t_call (t_runV (i := 9) hC hI (xst hI (Nat.le_of_ble_eq_true rfl) sl_9) rfl (um_X2_number_2 l D dA ad Hs hC.2.2 σ1 x2 x3 _ _ hT) (lw_V q810 q812 qs15 q163 q813) 2 hdV_X2_number_2 ⟨rfl, rfl⟩ ⟨Nat.le_of_ble_eq_true rfl, Nat.le_of_ble_eq_true rfl⟩ rfl hl.1 rfl (Nat.le_of_ble_eq_true rfl) hB dX2_number_8) hI (fun σ1 H1 locs1 hE h10 hI => hthr _ _ _ _ _ _ _ _ hE hI h10 hB) (fun r6 σ5 H locs hT hI => ?_)
  refine W.eq (g2 := F0 m 11 ls [.int r6]) rfl ?_
  exact hret _ _ _ _ _ _ _ _ hT hI hB dX2_number_11
set_option maxHeartbeats 4000000 in
set_option maxRecDepth 100000 in
theorem um_X2_opens (l : Launch) (D : va_G) (dA : Nat → ClassId) (ad : Nat → Nat) (Hs : Heap) (hA : cAd ad 1296 Hs.size) (σ : CS) (x1 : Int32) (K : Unit → CS → Prop) (E : CS → Prop) (hT : U_X2_opens σ x1 K E) : vq_Met l yX2_opens (ws_ yX2_opens cX2_opens 2 (none)) ({ frames := 2, cells := 0, slots := 0, locals := 34 }) (va_Pc [.ref (ad 9), .int x1] (cU D dA ad 1296 Hs σ)) (xQ rvU K (cU D dA ad 1296 Hs) (cA ad)) (xX D dA ad 1296 Hs E) 0 0 (cA ad) := by
  refine xt_v hA (by decide) rfl (Nat.le_of_ble_eq_true rfl) ?_
  intro p e s m args below meth c Q hC hN hret hthr hI ls hl
  have hx := hC.1.1
  have hb := hC.1.2.1
  have hB : 0 ≤ 0 ∧ 0 ≤ 0 := ⟨Nat.zero_le _, Nat.zero_le _⟩
  have hl : lv_has ls 2 [(0, .ref (ad 9)), (1, .int x1)] := hl
  unfold U_X2_opens at hT
  refine lv_aload_n hx hb dX2_opens_0 rfl (lv_at hl 0 rfl) ?_
  refine xg2_4 (i := 9) hC hI (xst hI (Nat.le_of_ble_eq_true rfl) sl_9) q368 (fun _ h => h) dX2_opens_1 ?_
  refine lv_bipush (v := 6) hx hb dX2_opens_4 (by decide) ?_
  refine lv_icmp_ne (tgt := 16) hx hb dX2_opens_6 (by decide) (fun hc => ?_) (fun hc => ?_)
  · replace hT := hT.1 hc
    refine lv_aload_n hx hb dX2_opens_16 rfl (lv_at hl 0 rfl) ?_
    refine lv_dup hx hb dX2_opens_17 rfl ?_
    refine xg2_4 (i := 9) hC hI (xst hI (Nat.le_of_ble_eq_true rfl) sl_9) q368 (fun _ h => h) dX2_opens_18 ?_
    refine lv_iconst (v := 1) hx hb dX2_opens_21 (by decide) ?_
    refine lv_iadd hx hb dX2_opens_22 ?_
    refine xp2_4 (i := 9) (v := (gI σ 9 4) + 1) hC hI (Nat.lt_of_lt_of_le (show _ < 1296 from (Nat.le_of_ble_eq_true rfl)) (by decide)) (xst hI (Nat.le_of_ble_eq_true rfl) sl_9) hT q368 (fun _ h => h) dX2_opens_23 (fun σ1 H locs hT hI => ?_)
    exact hret _ _ _ _ _ _ _ _ hT hI hB dX2_opens_26
  · replace hT := hT.2 hc
    refine lv_aload_n hx hb dX2_opens_9 rfl (lv_at hl 0 rfl) ?_
    refine lv_iconst (v := 4) hx hb dX2_opens_10 (by decide) ?_
    refine lv_iload_n hx hb dX2_opens_11 rfl (lv_at hl 1 rfl) ?_
    refine x_call (x_runV (i := 9) hC hI (xst hI (Nat.le_of_ble_eq_true rfl) sl_9) rfl (um_X2_wrong l D dA ad Hs hC.2.2 σ 4 x1 _ hT) (lw_V q576 q578 qs7 q163 q579) 2 hdV_X2_wrong ⟨rfl, rfl⟩ ⟨Nat.le_of_ble_eq_true rfl, Nat.le_of_ble_eq_true rfl⟩ rfl hl.1 rfl (Nat.le_of_ble_eq_true rfl) hB dX2_opens_12) hI (fun r3 σ2 H locs hT hI => ?_)
    refine W.eq (g2 := F0 m 15 ls [va_rf (rgR ad r3)]) rfl ?_
    obtain ⟨h11, hT⟩ := hT
    refine W.eq (congrArg (fun z => F0 m 15 ls [z]) (xrq h11)) ?_
    exact vq_athrow hx hb dX2_opens_15 (hthr _ _ _ _ _ _ _ _ hT hI (xst hI (Nat.le_of_ble_eq_true rfl) sl_10) hB)
set_option maxHeartbeats 4000000 in
set_option maxRecDepth 100000 in
theorem um_X2_must (l : Launch) (D : va_G) (dA : Nat → ClassId) (ad : Nat → Nat) (Hs : Heap) (hA : cAd ad 1296 Hs.size) (σ : CS) (x1 : Int32) (K : Unit → CS → Prop) (E : CS → Prop) (hT : U_X2_must σ x1 K E) : vq_Met l yX2_must (ws_ yX2_must cX2_must 2 (none)) ({ frames := 3, cells := 0, slots := 0, locals := 53 }) (va_Pc [.ref (ad 9), .int x1] (cU D dA ad 1296 Hs σ)) (xQ rvU K (cU D dA ad 1296 Hs) (cA ad)) (xX D dA ad 1296 Hs E) 0 0 (cA ad) := by
  refine xt_v hA (by decide) rfl (Nat.le_of_ble_eq_true rfl) ?_
  intro p e s m args below meth c Q hC hN hret hthr hI ls hl
  have hx := hC.1.1
  have hb := hC.1.2.1
  have hB : 0 ≤ 0 ∧ 0 ≤ 0 := ⟨Nat.zero_le _, Nat.zero_le _⟩
  have hl : lv_has ls 2 [(0, .ref (ad 9)), (1, .int x1)] := hl
  unfold U_X2_must at hT
  refine lv_aload_n hx hb dX2_must_0 rfl (lv_at hl 0 rfl) ?_
  refine x_call (x_runV (i := 9) hC hI (xst hI (Nat.le_of_ble_eq_true rfl) sl_9) rfl (um_X2_here l D dA ad Hs hC.2.2 σ _ hT) (lw_V q564 q566 qs4 q163 q567) 0 hdV_X2_here ⟨rfl, rfl⟩ ⟨Nat.le_of_ble_eq_true rfl, Nat.le_of_ble_eq_true rfl⟩ rfl hl.1 rfl (Nat.le_of_ble_eq_true rfl) hB dX2_must_1) hI (fun r2 σ1 H locs hT hI => ?_)
  refine W.eq (g2 := F0 m 4 ls [.int r2]) rfl ?_
  refine lv_iload_n hx hb dX2_must_4 rfl (lv_at hl 1 rfl) ?_
  refine lv_icmp_eq (tgt := 18) hx hb dX2_must_5 (by decide) (fun hc => ?_) (fun hc => ?_)
  · replace hT := hT.1 hc
    refine lv_aload_n hx hb dX2_must_18 rfl (lv_at hl 0 rfl) ?_
    refine lv_dup hx hb dX2_must_19 rfl ?_
    refine xg2_2 (i := 9) hC hI (xst hI (Nat.le_of_ble_eq_true rfl) sl_9) q366 (fun _ h => h) dX2_must_20 ?_
    refine lv_iconst (v := 1) hx hb dX2_must_23 (by decide) ?_
    refine lv_iadd hx hb dX2_must_24 ?_
    refine xp2_2 (i := 9) (v := (gI σ1 9 2) + 1) hC hI (Nat.lt_of_lt_of_le (show _ < 1296 from (Nat.le_of_ble_eq_true rfl)) (by decide)) (xst hI (Nat.le_of_ble_eq_true rfl) sl_9) hT q366 (fun _ h => h) dX2_must_25 (fun σ3 H locs hT hI => ?_)
    exact hret _ _ _ _ _ _ _ _ hT hI hB dX2_must_28
  · replace hT := hT.2 hc
    refine lv_aload_n hx hb dX2_must_8 rfl (lv_at hl 0 rfl) ?_
    refine lv_iconst (v := 1) hx hb dX2_must_9 (by decide) ?_
    refine lv_aload_n hx hb dX2_must_10 rfl (lv_at hl 0 rfl) ?_
    refine xg2_2 (i := 9) hC hI (xst hI (Nat.le_of_ble_eq_true rfl) sl_9) q366 (fun _ h => h) dX2_must_11 ?_
    refine x_call (x_runV (i := 9) hC hI (xst hI (Nat.le_of_ble_eq_true rfl) sl_9) rfl (um_X2_wrong l D dA ad Hs hC.2.2 σ1 1 (gI σ1 9 2) _ hT) (lw_V q576 q578 qs7 q163 q579) 2 hdV_X2_wrong ⟨rfl, rfl⟩ ⟨Nat.le_of_ble_eq_true rfl, Nat.le_of_ble_eq_true rfl⟩ rfl hl.1 rfl (Nat.le_of_ble_eq_true rfl) hB dX2_must_14) hI (fun r5 σ4 H locs hT hI => ?_)
    refine W.eq (g2 := F0 m 17 ls [va_rf (rgR ad r5)]) rfl ?_
    obtain ⟨h11, hT⟩ := hT
    refine W.eq (congrArg (fun z => F0 m 17 ls [z]) (xrq h11)) ?_
    exact vq_athrow hx hb dX2_must_17 (hthr _ _ _ _ _ _ _ _ hT hI (xst hI (Nat.le_of_ble_eq_true rfl) sl_10) hB)
set_option maxHeartbeats 4000000 in
set_option maxRecDepth 100000 in
theorem um_X2_passes (l : Launch) (D : va_G) (dA : Nat → ClassId) (ad : Nat → Nat) (Hs : Heap) (hA : cAd ad 1296 Hs.size) (mc ms : Nat) (σ : CS) (x1 : Nat) (K : Int32 → CS → Prop) (E : CS → Prop) (hT : U_X2_passes mc ms σ x1 K E) : vq_Met l yX2_passes (ws_ yX2_passes cX2_passes 3 (some .boolean)) ({ frames := 7, cells := mc, slots := ms, locals := 151 }) (va_Pc [.ref (ad 9), .ref (ad x1)] (cU D dA ad 1296 Hs σ)) (xQ rvI K (cU D dA ad 1296 Hs) (cA ad)) (xX D dA ad 1296 Hs E) mc ms (cA ad) := by
  refine xt_z hA (by decide) rfl (Nat.le_of_ble_eq_true rfl) ?_
  intro p e s m args below meth c Q hC hN hret hthr hI ls hl
  have hx := hC.1.1
  have hb := hC.1.2.1
  have hB : 0 ≤ mc ∧ 0 ≤ ms := ⟨Nat.zero_le _, Nat.zero_le _⟩
  have hl : lv_has ls 3 [(0, .ref (ad 9)), (1, .ref (ad x1))] := hl
  unfold U_X2_passes at hT
  refine lv_aload_n hx hb dX2_passes_0 rfl (lv_at hl 0 rfl) ?_
  refine xg2_2 (i := 9) hC hI (xst hI (Nat.le_of_ble_eq_true rfl) sl_9) q366 (fun _ h => h) dX2_passes_1 ?_
  refine lv_istore_n (lv' := [(2, .int (gI σ 9 2)), (0, .ref (ad 9)), (1, .ref (ad x1))]) hx hb dX2_passes_4 rfl hl (Nat.le_of_ble_eq_true rfl) rfl (fun ls hl => ?_)
  refine lv_aload_n hx hb dX2_passes_5 rfl (lv_at hl 1 rfl) ?_
  refine x_call (x_runV (i := 9) hC hI (xst hI (Nat.le_of_ble_eq_true rfl) sl_9) rfl (um_X2_here l D dA ad Hs hC.2.2 σ _ hT) (lw_V q564 q566 qs4 q163 q567) 0 hdV_X2_here ⟨rfl, rfl⟩ ⟨Nat.le_of_ble_eq_true rfl, Nat.le_of_ble_eq_true rfl⟩ rfl hl.1 rfl (Nat.le_of_ble_eq_true rfl) hB dX2_passes_6) hI (fun r2 σ1 H locs hT hI => ?_)
  refine W.eq (g2 := F0 m 9 ls [.int r2]) rfl ?_
  refine x_call (x_runSN hC hI (um_X0_isLetter l D dA ad 1296 Hs hC.2.2 σ1 r2 _ hT) q584 q585 q158 q586 1 hdS_X0_isLetter ⟨rfl, rfl⟩ ⟨Nat.le_of_ble_eq_true rfl, Nat.le_of_ble_eq_true rfl⟩ rfl hl.1 rfl (Nat.le_of_ble_eq_true rfl) hB dX2_passes_9) hI (fun r4 σ3 H locs hT hI => ?_)
  refine W.eq (g2 := F0 m 12 ls [.int r4]) rfl ?_
  refine lv_if_ne (tgt := 17) hx hb dX2_passes_12 (by decide) (fun hc => ?_) (fun hc => ?_)
  · replace hT := hT.1 hc
    refine lv_aload_n hx hb dX2_passes_17 rfl (lv_at hl 1 rfl) ?_
    obtain ⟨mc7, ms8, hB, hT⟩ := hT
    refine t_call (t_runV (i := 9) hC hI (xst hI (Nat.le_of_ble_eq_true rfl) sl_9) rfl (um_X2_word l D dA ad Hs hC.2.2 mc7 ms8 σ3 _ _ hT) (lw_V q580 q582 qs8 q163 q583) 0 hdV_X2_word ⟨rfl, rfl⟩ ⟨Nat.le_of_ble_eq_true rfl, Nat.le_of_ble_eq_true rfl⟩ rfl hl.1 rfl (Nat.le_of_ble_eq_true rfl) hB dX2_passes_18) hI (fun σ1 H1 locs1 hE h10 hI => hthr _ _ _ _ _ _ _ _ hE hI h10 hB) (fun r6 σ5 H locs hT hI => ?_)
    refine W.eq (g2 := F0 m 21 ls [va_rf (rgR ad r6)]) rfl ?_
    refine lv_aload_n hx hb dX2_passes_21 rfl (lv_at hl 2 rfl) ?_
    obtain ⟨q9, hqe_q9, hT_q9⟩ := hT
    have hl_q9 := hl
    subst hqe_q9
    replace hT := hT_q9
    refine W.eq (g2 := F0 m 22 ls [.ref (ad x1), .ref (ad q9)]) rfl ?_
    have hl : lv_has ls 3 [(2, .int (gI σ 9 2)), (0, .ref (ad 9)), (1, .ref (ad x1))] := hl_q9
    obtain ⟨hL, hT⟩ := hT
    refine x_call (x_runV (i := q9) hC hI hL rfl (um_J6_equals l D dA ad 1296 Hs hC.2.2 σ5 q9 x1 _ hT) (lw_V q730 q731 q732 q171 q733) 1 hdV_J6_equals ⟨rfl, rfl⟩ ⟨Nat.le_of_ble_eq_true rfl, Nat.le_of_ble_eq_true rfl⟩ rfl hl.1 rfl (Nat.le_of_ble_eq_true rfl) hB dX2_passes_22) hI (fun r11 σ10 H locs hT hI => ?_)
    refine W.eq (g2 := F0 m 25 ls [.int r11]) rfl ?_
    refine lv_if_eq (tgt := 30) hx hb dX2_passes_25 (by decide) (fun hc => ?_) (fun hc => ?_)
    · replace hT := hT.1 hc
      refine lv_aload_n hx hb dX2_passes_30 rfl (lv_at hl 1 rfl) ?_
      refine lv_iload_n hx hb dX2_passes_31 rfl (lv_at hl 0 rfl) ?_
      refine xp2_2 (i := 9) (v := gI σ 9 2) hC hI (Nat.lt_of_lt_of_le (show _ < 1296 from (Nat.le_of_ble_eq_true rfl)) (by decide)) (xst hI (Nat.le_of_ble_eq_true rfl) sl_9) hT q366 (fun _ h => h) dX2_passes_32 (fun σ12 H locs hT hI => ?_)
      refine lv_iconst (v := 0) hx hb dX2_passes_35 (by decide) ?_
      exact hret _ _ _ _ _ _ _ _ rfl hT hI hB dX2_passes_36
    · replace hT := hT.2 hc
      refine lv_iconst (v := 1) hx hb dX2_passes_28 (by decide) ?_
      exact hret _ _ _ _ _ _ _ _ rfl hT hI hB dX2_passes_29
  · replace hT := hT.2 hc
    refine lv_iconst (v := 0) hx hb dX2_passes_15 (by decide) ?_
    exact hret _ _ _ _ _ _ _ _ rfl hT hI hB dX2_passes_16
set_option maxHeartbeats 4000000 in
set_option maxRecDepth 100000 in
theorem um_X2_takes (l : Launch) (D : va_G) (dA : Nat → ClassId) (ad : Nat → Nat) (Hs : Heap) (hA : cAd ad 1296 Hs.size) (σ : CS) (x1 : Int32) (K : Int32 → CS → Prop) (hT : U_X2_takes σ x1 K) : Met l yX2_takes (ws_ yX2_takes cX2_takes 3 (some .boolean)) ({ frames := 3, cells := 0, slots := 0, locals := 53 }) (va_Pc [.ref (ad 9), .int x1] (cU D dA ad 1296 Hs σ)) (xQ rvI K (cU D dA ad 1296 Hs) (cA ad)) 0 0 (cA ad) := by
  refine xm_z hA (by decide) rfl (Nat.le_of_ble_eq_true rfl) ?_
  intro p e s m args below meth c Q hC hN hret hI ls hl
  have hx := hC.1.1
  have hb := hC.1.2.1
  have hB : 0 ≤ 0 ∧ 0 ≤ 0 := ⟨Nat.zero_le _, Nat.zero_le _⟩
  have hl : lv_has ls 3 [(0, .ref (ad 9)), (1, .int x1)] := hl
  have w_13 : ∀ (s0 : Int32) (σ : CS) (H : Heap) (locs : List Loc) (ls : Array Slot), U_X2_takes_13 K s0 σ → xI D dA ad 1296 Hs s.heap σ H locs → lv_has ls 3 [(0, .ref (ad 9))] → W p l e ({ frames := 3, cells := 0, slots := 0, locals := 53 }) s m args below meth c H locs 0 0 Q (F0 m 13 ls [.int s0]) := by
    intro s0 σ H locs ls hT hI hl
    unfold U_X2_takes_13 at hT
    refine lv_istore_n (lv' := [(2, .int s0), (0, .ref (ad 9))]) hx hb dX2_takes_13 rfl hl (Nat.le_of_ble_eq_true rfl) rfl (fun ls hl => ?_)
    refine lv_aload_n hx hb dX2_takes_14 rfl (lv_at hl 1 rfl) ?_
    refine lv_dup hx hb dX2_takes_15 rfl ?_
    refine xg2_2 (i := 9) hC hI (xst hI (Nat.le_of_ble_eq_true rfl) sl_9) q366 (fun _ h => h) dX2_takes_16 ?_
    refine lv_iload_n hx hb dX2_takes_19 rfl (lv_at hl 0 rfl) ?_
    refine lv_if_eq (tgt := 27) hx hb dX2_takes_20 (by decide) (fun hc => ?_) (fun hc => ?_)
    · replace hT := hT.1 hc
      refine lv_iconst (v := 0) hx hb dX2_takes_27 (by decide) ?_
      refine lv_iadd hx hb dX2_takes_28 ?_
      refine xp2_2 (i := 9) (v := (gI σ 9 2) + 0) hC hI (Nat.lt_of_lt_of_le (show _ < 1296 from (Nat.le_of_ble_eq_true rfl)) (by decide)) (xst hI (Nat.le_of_ble_eq_true rfl) sl_9) hT q366 (fun _ h => h) dX2_takes_29 (fun σ1 H locs hT hI => ?_)
      refine lv_iload_n hx hb dX2_takes_32 rfl (lv_at hl 0 rfl) ?_
      exact hret _ _ _ _ _ _ _ _ hT.1 hT.2 hI hB dX2_takes_33
    · replace hT := hT.2 hc
      refine lv_iconst (v := 1) hx hb dX2_takes_23 (by decide) ?_
      refine lv_goto (tgt := 28) hx hb dX2_takes_24 (by decide) ?_
      refine lv_iadd hx hb dX2_takes_28 ?_
      refine xp2_2 (i := 9) (v := (gI σ 9 2) + 1) hC hI (Nat.lt_of_lt_of_le (show _ < 1296 from (Nat.le_of_ble_eq_true rfl)) (by decide)) (xst hI (Nat.le_of_ble_eq_true rfl) sl_9) hT q366 (fun _ h => h) dX2_takes_29 (fun σ2 H locs hT hI => ?_)
      refine lv_iload_n hx hb dX2_takes_32 rfl (lv_at hl 0 rfl) ?_
      exact hret _ _ _ _ _ _ _ _ hT.1 hT.2 hI hB dX2_takes_33
  unfold U_X2_takes at hT
  refine lv_aload_n hx hb dX2_takes_0 rfl (lv_at hl 0 rfl) ?_
  refine x_call (x_runV (i := 9) hC hI (xst hI (Nat.le_of_ble_eq_true rfl) sl_9) rfl (um_X2_here l D dA ad Hs hC.2.2 σ _ hT) (lw_V q564 q566 qs4 q163 q567) 0 hdV_X2_here ⟨rfl, rfl⟩ ⟨Nat.le_of_ble_eq_true rfl, Nat.le_of_ble_eq_true rfl⟩ rfl hl.1 rfl (Nat.le_of_ble_eq_true rfl) hB dX2_takes_1) hI (fun r4 σ3 H locs hT hI => ?_)
  refine W.eq (g2 := F0 m 4 ls [.int r4]) rfl ?_
  refine lv_iload_n hx hb dX2_takes_4 rfl (lv_at hl 1 rfl) ?_
  refine lv_icmp_ne (tgt := 12) hx hb dX2_takes_5 (by decide) (fun hc => ?_) (fun hc => ?_)
  · replace hT := hT.1 hc
    refine lv_iconst (v := 0) hx hb dX2_takes_12 (by decide) ?_
    exact w_13 0 σ3 _ _ _ hT hI (lv_sub hl [0] rfl)
  · replace hT := hT.2 hc
    refine lv_iconst (v := 1) hx hb dX2_takes_8 (by decide) ?_
    refine lv_goto (tgt := 13) hx hb dX2_takes_9 (by decide) ?_
    exact w_13 1 σ3 _ _ _ hT hI (lv_sub hl [0] rfl)
