def U_J13_copyOf_2 (mc ms : Nat) (σ : CS) (x0 : Nat) (x1 : Int32) (K : Nat → CS → Prop) : Prop := ¬ (x1 : Int32) < 0 ∧ ((Int32.toNatClampNeg x1) ≤ 1000000 ∧ ((1 ≤ mc ∧ 0 + (Int32.toNatClampNeg x1) ≤ ms) ∧ (σ.1 < CB ∧ (∀ σ1 : CS, σ1 = nC σ (.inr (5, (Int32.toNatClampNeg x1))) → (gK σ1 x0 = some (.inr (5, gN σ1 x0)) ∧ (U_J12_min σ1 (Int32.ofNat (gN σ1 x0)) x1 (fun r3 σ2 => ((x0 < CB ∧ (σ.1) < CB) ∧ ((gK σ2 x0 = some (.inr (5, gN σ2 x0)) ∧ gK σ2 (σ.1) = some (.inr (5, gN σ2 (σ.1)))) ∧ ((¬ (0 : Int32) < 0 ∧ ¬ (0 : Int32) < 0 ∧ ¬ r3 < 0) ∧ (((Int32.toNatClampNeg 0) + (Int32.toNatClampNeg r3) ≤ gN σ2 x0 ∧ (Int32.toNatClampNeg 0) + (Int32.toNatClampNeg r3) ≤ gN σ2 (σ.1)) ∧ ((∀ i, i < (Int32.toNatClampNeg r3) → (5 = 1 → fits .byte (.int (gI σ2 x0 ((Int32.toNatClampNeg 0) + i))) = true) ∧ (5 = 5 → gR σ2 x0 ((Int32.toNatClampNeg 0) + i) = 0 ∨ ∃ q, gR σ2 x0 ((Int32.toNatClampNeg 0) + i) = q + 1 ∧ isC "java/lang/Object" σ2 q)) ∧ (∀ σ4 : CS, σ4 = wC σ2 x0 (σ.1) (Int32.toNatClampNeg 0) (Int32.toNatClampNeg 0) (Int32.toNatClampNeg r3) → (K ((σ.1) + 1) σ4))))))))))))))
def U_J13_copyOf (mc ms : Nat) (σ : CS) (x0 : Nat) (x1 : Int32) (K : Nat → CS → Prop) : Prop := gK σ x0 = some (.inr (5, gN σ x0)) ∧ (∃ mc3 ms4 : Nat, (0 + mc3 ≤ mc ∧ 0 + ms4 ≤ ms) ∧ (U_J13_copyOf_2 mc3 ms4 σ x0 x1 (fun r2 σ1 => (K r2 σ1))))
def U_J2_grow_2 (mc ms : Nat) (σ : CS) (ob : Nat) (x1 : Int32) (K : Nat → CS → Prop) : Prop := gK σ ob = some kO20 ∧ (∃ q1, (gR σ ob 1) = q1 + 1 ∧ (gK σ q1 = some (.inr (5, gN σ q1)) ∧ ((((0 : Int32) < (Int32.ofNat (gN σ q1)) → (U_J10_newLength σ (Int32.ofNat (gN σ q1)) (x1 - (Int32.ofNat (gN σ q1))) ((Int32.ofNat (gN σ q1)) >>> (1 &&& 31)) (fun r4 σ3 => (gK σ3 ob = some kO20 ∧ (∃ q5, (gR σ3 ob 1) = q5 + 1 ∧ (∃ mc9 ms10 : Nat, (0 + mc9 ≤ mc ∧ 0 + ms10 ≤ ms) ∧ (U_J13_copyOf mc9 ms10 σ3 q5 r4 (fun r8 σ7 => (ob < CB ∧ (gK σ7 ob = some kO20 ∧ (∀ σ11 : CS, σ11 = wR σ7 ob 1 r8 → (K r8 σ11)))))))))))) ∧ (¬ (0 : Int32) < (Int32.ofNat (gN σ q1)) → (False))))))
def U_J2_grow (mc ms : Nat) (σ : CS) (ob : Nat) (K : Nat → CS → Prop) : Prop := gK σ ob = some kO20 ∧ (gK σ ob = some kO20 ∧ (∃ mc3 ms4 : Nat, (0 + mc3 ≤ mc ∧ 0 + ms4 ≤ ms) ∧ (U_J2_grow_2 mc3 ms4 σ ob ((gI σ ob 2) + 1) (fun r2 σ1 => (K r2 σ1)))))
def U_J2_add_2_11 (mc ms : Nat) (K : Unit → CS → Prop) (ob : Nat) (x1 : Nat) (x2 : Nat) (x3 : Int32) (cx : Nat) (zx : Nat) (σ : CS) : Prop := ∃ q1, x2 = q1 + 1 ∧ (q1 < CB ∧ (gK σ q1 = some (.inr (5, gN σ q1)) ∧ (isC "java/lang/Object" σ x1 ∧ (vp_in x3 (gN σ q1) ∧ (∀ σ2 : CS, σ2 = wR σ q1 (Int32.toNatClampNeg x3) (x1 + 1) → (ob < CB ∧ (gK σ2 ob = some kO20 ∧ (∀ σ3 : CS, σ3 = wI σ2 ob 2 (x3 + 1) → (K () σ3)))))))))
def U_J2_add_2 (mc ms : Nat) (σ : CS) (ob : Nat) (x1 : Nat) (x2 : Nat) (x3 : Int32) (K : Unit → CS → Prop) : Prop := gK σ x2 = some (.inr (5, gN σ x2)) ∧ (((¬ x3 = (Int32.ofNat (gN σ x2)) → (U_J2_add_2_11 mc ms K ob x1 (x2 + 1) x3 0 0 σ)) ∧ (x3 = (Int32.ofNat (gN σ x2)) → (gK σ ob = some kO20 ∧ (∃ mc6 ms7 : Nat, (0 + mc6 ≤ mc ∧ 0 + ms7 ≤ ms) ∧ (U_J2_grow mc6 ms7 σ ob (fun r5 σ4 => (U_J2_add_2_11 mc ms K ob x1 r5 x3 (0 + mc6) (0 + ms7) σ4))))))))
def U_J2_add (mc ms : Nat) (σ : CS) (ob : Nat) (x1 : Nat) (K : Int32 → CS → Prop) : Prop := gK σ ob = some kO20 ∧ (ob < CB ∧ (gK σ ob = some kO20 ∧ (∀ σ1 : CS, σ1 = wI σ ob 0 ((gI σ ob 0) + 1) → (gK σ1 ob = some kO20 ∧ (gK σ1 ob = some kO20 ∧ (∃ q2, (gR σ1 ob 1) = q2 + 1 ∧ (gK σ1 ob = some kO20 ∧ (∃ mc6 ms7 : Nat, (0 + mc6 ≤ mc ∧ 0 + ms7 ≤ ms) ∧ (U_J2_add_2 mc6 ms7 σ1 ob x1 q2 (gI σ1 ob 2) (fun _ σ4 => (K 1 σ4)))))))))))
theorem hdS_J13_copyOf : yJ13_copyOf.cls ≠ "java/lang/invoke/MethodHandle" ∧ yJ13_copyOf.cls ≠ "java/lang/invoke/VarHandle" ∧ (parseMethodDescriptor yJ13_copyOf.desc).map (fun d => d.parameters.length) = some 2 := by decide +kernel
theorem hdS_J13_copyOf_2 : yJ13_copyOf_2.cls ≠ "java/lang/invoke/MethodHandle" ∧ yJ13_copyOf_2.cls ≠ "java/lang/invoke/VarHandle" ∧ (parseMethodDescriptor yJ13_copyOf_2.desc).map (fun d => d.parameters.length) = some 3 := by decide +kernel
theorem hdV_J2_add_2 : yJ2_add_2.cls = RJ2 ∧ yJ2_add_2.cls ≠ "java/lang/invoke/MethodHandle" ∧ yJ2_add_2.cls ≠ "java/lang/invoke/VarHandle" ∧ (parseMethodDescriptor yJ2_add_2.desc).map (fun d => d.parameters.length) = some 3 := by decide +kernel
theorem hdV_J2_grow : yJ2_grow.cls = RJ2 ∧ yJ2_grow.cls ≠ "java/lang/invoke/MethodHandle" ∧ yJ2_grow.cls ≠ "java/lang/invoke/VarHandle" ∧ (parseMethodDescriptor yJ2_grow.desc).map (fun d => d.parameters.length) = some 0 := by decide +kernel
theorem hdV_J2_grow_2 : yJ2_grow_2.cls = RJ2 ∧ yJ2_grow_2.cls ≠ "java/lang/invoke/MethodHandle" ∧ yJ2_grow_2.cls ≠ "java/lang/invoke/VarHandle" ∧ (parseMethodDescriptor yJ2_grow_2.desc).map (fun d => d.parameters.length) = some 1 := by decide +kernel
set_option maxHeartbeats 4000000 in
set_option maxRecDepth 100000 in
theorem um_J13_copyOf_2 (l : Launch) (D : va_G) (dA : Nat → ClassId) (ad : Nat → Nat) (n0 : Nat) (Hs : Heap) (hA : cAd ad n0 Hs.size) (mc ms : Nat) (σ : CS) (x0 : Nat) (x1 : Int32) (K : Nat → CS → Prop) (hT : U_J13_copyOf_2 mc ms σ x0 x1 K) : Met l yJ13_copyOf_2 (ws_ yJ13_copyOf_2 cJ13_copyOf_2 4 (some (.array (.object "java/lang/Object")))) ({ frames := 2, cells := mc, slots := ms, locals := 40 }) (va_Pc [.ref (ad x0), .int x1, .ref (ad 1049000)] (cU D dA ad n0 Hs σ)) (xQ (rvR ad) K (cU D dA ad n0 Hs) (cA ad)) mc ms (cA ad) := by
  refine xm_r (Or.inr ⟨_, rfl⟩) hA (by decide) rfl (Nat.le_of_ble_eq_true rfl) ?_
  intro p e s m args below meth c Q hC hN hret hI ls hl
  have hx := hC.1.1
  have hb := hC.1.2.1
  have hB : 0 ≤ mc ∧ 0 ≤ ms := ⟨Nat.zero_le _, Nat.zero_le _⟩
  have hl : lv_has ls 4 [(0, .ref (ad x0)), (1, .int x1), (2, .ref (ad 1049000))] := hl
  unfold U_J13_copyOf_2 at hT
  refine lv_aload_n hx hb dJ13_copyOf_2_0 rfl (lv_at hl 2 rfl) ?_
  refine x_ldcM hC q914 dJ13_copyOf_2_1 ?_
  refine x_acmp_same (tgt := 13) hC dJ13_copyOf_2_3 (by decide) ?_
  refine lv_iload_n hx hb dJ13_copyOf_2_6 rfl (lv_at hl 1 rfl) ?_
  have hB := hT.2.2.1
  refine xanew5 hC hI q915 hT dJ13_copyOf_2_7 (fun σ1 H hT hI => ?_)
  refine lv_goto (tgt := 24) hx hb dJ13_copyOf_2_10 (by decide) ?_
  refine lv_astore_n (lv' := [(3, .ref (ad (σ.1))), (0, .ref (ad x0)), (1, .int x1), (2, .ref (ad 1049000))]) hx hb dJ13_copyOf_2_24 rfl hl (Nat.le_of_ble_eq_true rfl) rfl (fun ls hl => ?_)
  refine lv_aload_n hx hb dJ13_copyOf_2_25 rfl (lv_at hl 1 rfl) ?_
  refine lv_iconst (v := 0) hx hb dJ13_copyOf_2_26 (by decide) ?_
  refine lv_aload_n hx hb dJ13_copyOf_2_27 rfl (lv_at hl 0 rfl) ?_
  refine lv_iconst (v := 0) hx hb dJ13_copyOf_2_28 (by decide) ?_
  refine lv_aload_n hx hb dJ13_copyOf_2_29 rfl (lv_at hl 1 rfl) ?_
  obtain ⟨hL, hT⟩ := hT
  refine x_alen (i := x0) hC hI hL (by decide) dJ13_copyOf_2_30 ?_
  refine lv_iload_n hx hb dJ13_copyOf_2_31 rfl (lv_at hl 2 rfl) ?_
  refine x_call (x_runS hC hI (um_J12_min l D dA ad n0 Hs hC.2.2 σ1 (Int32.ofNat (gN σ1 x0)) x1 _ hT) (lw_S q916 q917 q179 q918) 2 hdS_J12_min ⟨rfl, rfl⟩ ⟨Nat.le_of_ble_eq_true rfl, Nat.le_of_ble_eq_true rfl⟩ rfl hl.1 rfl (Nat.le_of_ble_eq_true rfl) hB dJ13_copyOf_2_32) hI (fun r3 σ2 H locs hT hI => ?_)
  refine W.eq (g2 := F0 m 35 ls [.int r3, .int 0, .ref (ad (σ.1)), .int 0, .ref (ad x0)]) rfl ?_
  refine x_copy (b := x0) (a := σ.1) hC hI hl.1 q919 q921 q920 q181 hT.1.1 hT.1.2 hT.2.1.1 hT.2.1.2 (by decide) hT.2.2 (Nat.le_of_ble_eq_true rfl) (Nat.le_of_ble_eq_true rfl) dJ13_copyOf_2_35 (fun σ4 H locs hT hI => ?_)
  refine lv_aload_n hx hb dJ13_copyOf_2_38 rfl (lv_at hl 0 rfl) ?_
  exact hret ((σ.1) + 1) _ _ _ _ _ _ _ hT hI hB dJ13_copyOf_2_39
set_option maxHeartbeats 4000000 in
set_option maxRecDepth 100000 in
theorem um_J13_copyOf (l : Launch) (D : va_G) (dA : Nat → ClassId) (ad : Nat → Nat) (n0 : Nat) (Hs : Heap) (hA : cAd ad n0 Hs.size) (mc ms : Nat) (σ : CS) (x0 : Nat) (x1 : Int32) (K : Nat → CS → Prop) (hT : U_J13_copyOf mc ms σ x0 x1 K) : Met l yJ13_copyOf (ws_ yJ13_copyOf cJ13_copyOf 2 (some (.array (.object "java/lang/Object")))) ({ frames := 3, cells := mc, slots := ms, locals := 63 }) (va_Pc [.ref (ad x0), .int x1] (cU D dA ad n0 Hs σ)) (xQ (rvR ad) K (cU D dA ad n0 Hs) (cA ad)) mc ms (cA ad) := by
  refine xm_r (Or.inr ⟨_, rfl⟩) hA (by decide) rfl (Nat.le_of_ble_eq_true rfl) ?_
  intro p e s m args below meth c Q hC hN hret hI ls hl
  have hx := hC.1.1
  have hb := hC.1.2.1
  have hB : 0 ≤ mc ∧ 0 ≤ ms := ⟨Nat.zero_le _, Nat.zero_le _⟩
  have hl : lv_has ls 2 [(0, .ref (ad x0)), (1, .int x1)] := hl
  unfold U_J13_copyOf at hT
  refine lv_aload_n hx hb dJ13_copyOf_0 rfl (lv_at hl 0 rfl) ?_
  refine lv_iload_n hx hb dJ13_copyOf_1 rfl (lv_at hl 1 rfl) ?_
  refine lv_aload_n hx hb dJ13_copyOf_2 rfl (lv_at hl 0 rfl) ?_
  obtain ⟨hL, hT⟩ := hT
  refine x_getC (i := x0) hC hI hl.1 hL q883 q2611 q884 q910 (Nat.le_of_ble_eq_true rfl) (Nat.le_of_ble_eq_true rfl) dJ13_copyOf_3 ?_
  obtain ⟨mc3, ms4, hB, hT⟩ := hT
  refine x_call (x_runS hC hI (um_J13_copyOf_2 l D dA ad n0 Hs hC.2.2 mc3 ms4 σ x0 x1 _ hT) (lw_S q911 q912 q180 q913) 3 hdS_J13_copyOf_2 ⟨rfl, rfl⟩ ⟨Nat.le_of_ble_eq_true rfl, Nat.le_of_ble_eq_true rfl⟩ rfl hl.1 rfl (Nat.le_of_ble_eq_true rfl) hB dJ13_copyOf_6) hI (fun r2 σ1 H locs hT hI => ?_)
  refine W.eq (g2 := F0 m 9 ls [va_rf (rgR ad r2)]) rfl ?_
  exact hret r2 _ _ _ _ _ _ _ hT hI hB dJ13_copyOf_9
set_option maxHeartbeats 4000000 in
set_option maxRecDepth 100000 in
theorem um_J2_grow_2 (l : Launch) (D : va_G) (dA : Nat → ClassId) (ad : Nat → Nat) (n0 : Nat) (Hs : Heap) (hA : cAd ad n0 Hs.size) (mc ms : Nat) (σ : CS) (ob : Nat) (x1 : Int32) (K : Nat → CS → Prop) (hT : U_J2_grow_2 mc ms σ ob x1 K) : Met l yJ2_grow_2 (ws_ yJ2_grow_2 cJ2_grow_2 4 (some (.array (.object "java/lang/Object")))) ({ frames := 4, cells := mc, slots := ms, locals := 84 }) (va_Pc [.ref (ad ob), .int x1] (cU D dA ad n0 Hs σ)) (xQ (rvR ad) K (cU D dA ad n0 Hs) (cA ad)) mc ms (cA ad) := by
  refine xm_r (Or.inr ⟨_, rfl⟩) hA (by decide) rfl (Nat.le_of_ble_eq_true rfl) ?_
  intro p e s m args below meth c Q hC hN hret hI ls hl
  have hx := hC.1.1
  have hb := hC.1.2.1
  have hB : 0 ≤ mc ∧ 0 ≤ ms := ⟨Nat.zero_le _, Nat.zero_le _⟩
  have hl : lv_has ls 4 [(0, .ref (ad ob)), (1, .int x1)] := hl
  unfold U_J2_grow_2 at hT
  refine lv_aload_n hx hb dJ2_grow_2_0 rfl (lv_at hl 0 rfl) ?_
  obtain ⟨hL, hT⟩ := hT
  refine xg20_1 (i := ob) hC hI hL q229 (fun _ h => h) dJ2_grow_2_1 ?_
  obtain ⟨q1, hq2, hT⟩ := hT
  refine W.eq (congrArg (fun z => F0 m 4 ls [z]) (xrq hq2)) ?_
  obtain ⟨hL, hT⟩ := hT
  refine x_alen (i := q1) hC hI hL (by decide) dJ2_grow_2_4 ?_
  refine lv_istore_n (lv' := [(2, .int (Int32.ofNat (gN σ q1))), (0, .ref (ad ob)), (1, .int x1)]) hx hb dJ2_grow_2_5 rfl hl (Nat.le_of_ble_eq_true rfl) rfl (fun ls hl => ?_)
  refine lv_iload_n hx hb dJ2_grow_2_6 rfl (lv_at hl 0 rfl) ?_
  refine lv_if_gt (tgt := 20) hx hb dJ2_grow_2_7 (by decide) (fun hc => ?_) (fun hc => ?_)
  · replace hT := hT.1 hc
    refine lv_iload_n hx hb dJ2_grow_2_20 rfl (lv_at hl 0 rfl) ?_
    refine lv_iload_n hx hb dJ2_grow_2_21 rfl (lv_at hl 2 rfl) ?_
    refine lv_iload_n hx hb dJ2_grow_2_22 rfl (lv_at hl 0 rfl) ?_
    refine lv_isub hx hb dJ2_grow_2_23 ?_
    refine lv_iload_n hx hb dJ2_grow_2_24 rfl (lv_at hl 0 rfl) ?_
    refine lv_iconst (v := 1) hx hb dJ2_grow_2_25 (by decide) ?_
    refine lv_ishr hx hb dJ2_grow_2_26 ?_
    refine x_call (x_runS hC hI (um_J10_newLength l D dA ad n0 Hs hC.2.2 σ (Int32.ofNat (gN σ q1)) (x1 - (Int32.ofNat (gN σ q1))) ((Int32.ofNat (gN σ q1)) >>> (1 &&& 31)) _ hT) (lw_S q870 q871 q175 q872) 3 hdS_J10_newLength ⟨rfl, rfl⟩ ⟨Nat.le_of_ble_eq_true rfl, Nat.le_of_ble_eq_true rfl⟩ rfl hl.1 rfl (Nat.le_of_ble_eq_true rfl) hB dJ2_grow_2_27) hI (fun r4 σ3 H locs hT hI => ?_)
    refine W.eq (g2 := F0 m 30 ls [.int r4]) rfl ?_
    refine lv_istore_n (lv' := [(3, .int r4), (2, .int (Int32.ofNat (gN σ q1))), (0, .ref (ad ob)), (1, .int x1)]) hx hb dJ2_grow_2_30 rfl hl (Nat.le_of_ble_eq_true rfl) rfl (fun ls hl => ?_)
    refine lv_aload_n hx hb dJ2_grow_2_31 rfl (lv_at hl 2 rfl) ?_
    refine lv_aload_n hx hb dJ2_grow_2_32 rfl (lv_at hl 2 rfl) ?_
    obtain ⟨hL, hT⟩ := hT
    refine xg20_1 (i := ob) hC hI hL q229 (fun _ h => h) dJ2_grow_2_33 ?_
    refine lv_iload_n hx hb dJ2_grow_2_36 rfl (lv_at hl 0 rfl) ?_
    obtain ⟨q5, hq6, hT⟩ := hT
    refine W.eq (congrArg (fun z => F0 m 37 ls [.int r4, z, .ref (ad ob)]) (xrq hq6)) ?_
    obtain ⟨mc9, ms10, hB, hT⟩ := hT
    refine x_call (x_runS hC hI (um_J13_copyOf l D dA ad n0 Hs hC.2.2 mc9 ms10 σ3 q5 r4 _ hT) (lw_S q880 q881 q180 q882) 2 hdS_J13_copyOf ⟨rfl, rfl⟩ ⟨Nat.le_of_ble_eq_true rfl, Nat.le_of_ble_eq_true rfl⟩ rfl hl.1 rfl (Nat.le_of_ble_eq_true rfl) hB dJ2_grow_2_37) hI (fun r8 σ7 H locs hT hI => ?_)
    refine W.eq (g2 := F0 m 40 ls [va_rf (rgR ad r8), .ref (ad ob)]) rfl ?_
    refine lv_dup_x1 hx hb dJ2_grow_2_40 (va_rf_cat _) rfl ?_
    obtain ⟨hic, hT⟩ := hT
    obtain ⟨hL, hT⟩ := hT
    refine xp20_1 (i := ob) (v := r8) hC hI hic hL hT q229 (fun _ h => h) dJ2_grow_2_41 (fun σ11 H locs hT hI => ?_)
    exact hret r8 _ _ _ _ _ _ _ hT hI hB dJ2_grow_2_44
  · replace hT := hT.2 hc
    exact hT.elim
set_option maxHeartbeats 4000000 in
set_option maxRecDepth 100000 in
theorem um_J2_grow (l : Launch) (D : va_G) (dA : Nat → ClassId) (ad : Nat → Nat) (n0 : Nat) (Hs : Heap) (hA : cAd ad n0 Hs.size) (mc ms : Nat) (σ : CS) (ob : Nat) (K : Nat → CS → Prop) (hT : U_J2_grow mc ms σ ob K) : Met l yJ2_grow (ws_ yJ2_grow cJ2_grow 1 (some (.array (.object "java/lang/Object")))) ({ frames := 5, cells := mc, slots := ms, locals := 107 }) (va_Pc [.ref (ad ob)] (cU D dA ad n0 Hs σ)) (xQ (rvR ad) K (cU D dA ad n0 Hs) (cA ad)) mc ms (cA ad) := by
  refine xm_r (Or.inr ⟨_, rfl⟩) hA (by decide) rfl (Nat.le_of_ble_eq_true rfl) ?_
  intro p e s m args below meth c Q hC hN hret hI ls hl
  have hx := hC.1.1
  have hb := hC.1.2.1
  have hB : 0 ≤ mc ∧ 0 ≤ ms := ⟨Nat.zero_le _, Nat.zero_le _⟩
  have hl : lv_has ls 1 [(0, .ref (ad ob))] := hl
  unfold U_J2_grow at hT
  refine lv_aload_n hx hb dJ2_grow_0 rfl (lv_at hl 0 rfl) ?_
  refine lv_aload_n hx hb dJ2_grow_1 rfl (lv_at hl 0 rfl) ?_
  obtain ⟨hL, hT⟩ := hT
  refine xg20_2 (i := ob) hC hI hL q230 (fun _ h => h) dJ2_grow_2 ?_
  refine lv_iconst (v := 1) hx hb dJ2_grow_5 (by decide) ?_
  refine lv_iadd hx hb dJ2_grow_6 ?_
  obtain ⟨hL, hT⟩ := hT
  obtain ⟨mc3, ms4, hB, hT⟩ := hT
  refine x_call (x_runV (i := ob) hC hI hL rfl (um_J2_grow_2 l D dA ad n0 Hs hC.2.2 mc3 ms4 σ ob ((gI σ ob 2) + 1) _ hT) (lw_V q864 q866 qs18 q162 q867) 1 hdV_J2_grow_2 ⟨rfl, rfl⟩ ⟨Nat.le_of_ble_eq_true rfl, Nat.le_of_ble_eq_true rfl⟩ rfl hl.1 rfl (Nat.le_of_ble_eq_true rfl) hB dJ2_grow_7) hI (fun r2 σ1 H locs hT hI => ?_)
  refine W.eq (g2 := F0 m 10 ls [va_rf (rgR ad r2)]) rfl ?_
  exact hret r2 _ _ _ _ _ _ _ hT hI hB dJ2_grow_10
set_option maxHeartbeats 4000000 in
set_option maxRecDepth 100000 in
theorem um_J2_add_2 (l : Launch) (D : va_G) (dA : Nat → ClassId) (ad : Nat → Nat) (n0 : Nat) (Hs : Heap) (hA : cAd ad n0 Hs.size) (mc ms : Nat) (σ : CS) (ob : Nat) (x1 : Nat) (x2 : Nat) (x3 : Int32) (K : Unit → CS → Prop) (hT : U_J2_add_2 mc ms σ ob x1 x2 x3 K) : Met l yJ2_add_2 (ws_ yJ2_add_2 cJ2_add_2 4 (none)) ({ frames := 6, cells := mc, slots := ms, locals := 127 }) (va_Pc [.ref (ad ob), .ref (ad x1), .ref (ad x2), .int x3] (cU D dA ad n0 Hs σ)) (xQ rvU K (cU D dA ad n0 Hs) (cA ad)) mc ms (cA ad) := by
  refine xm_v hA (by decide) rfl (Nat.le_of_ble_eq_true rfl) ?_
  intro p e s m args below meth c Q hC hN hret hI ls hl
  have hx := hC.1.1
  have hb := hC.1.2.1
  have hB : 0 ≤ mc ∧ 0 ≤ ms := ⟨Nat.zero_le _, Nat.zero_le _⟩
  have hl : lv_has ls 4 [(0, .ref (ad ob)), (1, .ref (ad x1)), (2, .ref (ad x2)), (3, .int x3)] := hl
  have w_11 : ∀ (x2 : Nat) (x3 : Int32) (cx : Nat) (zx : Nat) (σ : CS) (H : Heap) (locs : List Loc) (ls : Array Slot), U_J2_add_2_11 mc ms K ob x1 x2 x3 cx zx σ → xI D dA ad n0 Hs s.heap σ H locs → (cx ≤ mc ∧ zx ≤ ms) → lv_has ls 4 [(0, .ref (ad ob)), (1, .ref (ad x1)), (2, va_rf (rgR ad x2)), (3, .int x3)] → W p l e ({ frames := 6, cells := mc, slots := ms, locals := 127 }) s m args below meth c H locs cx zx Q (F0 m 11 ls []) := by
    intro x2 x3 cx zx σ H locs ls hT hI hB hl
    unfold U_J2_add_2_11 at hT
    refine x_aload_n hx hb dJ2_add_2_11 rfl (lv_at hl 2 rfl) ?_
    refine lv_iload_n hx hb dJ2_add_2_12 rfl (lv_at hl 3 rfl) ?_
    refine lv_aload_n hx hb dJ2_add_2_13 rfl (lv_at hl 1 rfl) ?_
    obtain ⟨q1, hqe_q1, hT_q1⟩ := hT
    have hl_q1 := hl
    subst hqe_q1
    replace hT := hT_q1
    refine W.eq (g2 := F0 m 14 ls [.ref (ad x1), .int x3, .ref (ad q1)]) rfl ?_
    have hl : lv_has ls 4 [(0, .ref (ad ob)), (1, .ref (ad x1)), (2, .ref (ad q1)), (3, .int x3)] := hl_q1
    obtain ⟨hic, hT⟩ := hT
    obtain ⟨hL, hT⟩ := hT
    obtain ⟨hV, hT⟩ := hT
    refine xaast5 (i := q1) (q := x1) hC hI hic hL hV hT dJ2_add_2_14 (fun σ2 H locs hT hI => ?_)
    refine lv_aload_n hx hb dJ2_add_2_15 rfl (lv_at hl 0 rfl) ?_
    refine lv_iload_n hx hb dJ2_add_2_16 rfl (lv_at hl 3 rfl) ?_
    refine lv_iconst (v := 1) hx hb dJ2_add_2_17 (by decide) ?_
    refine lv_iadd hx hb dJ2_add_2_18 ?_
    obtain ⟨hic, hT⟩ := hT
    obtain ⟨hL, hT⟩ := hT
    refine xp20_2 (i := ob) (v := x3 + 1) hC hI hic hL hT q230 (fun _ h => h) dJ2_add_2_19 (fun σ3 H locs hT hI => ?_)
    exact hret _ _ _ _ _ _ _ _ hT hI hB dJ2_add_2_22
  unfold U_J2_add_2 at hT
  refine lv_iload_n hx hb dJ2_add_2_0 rfl (lv_at hl 3 rfl) ?_
  refine lv_aload_n hx hb dJ2_add_2_1 rfl (lv_at hl 2 rfl) ?_
  obtain ⟨hL, hT⟩ := hT
  refine x_alen (i := x2) hC hI hL (by decide) dJ2_add_2_2 ?_
  refine lv_icmp_ne (tgt := 11) hx hb dJ2_add_2_3 (by decide) (fun hc => ?_) (fun hc => ?_)
  · replace hT := hT.1 hc
    exact w_11 (x2 + 1) x3 0 0 σ _ _ _ hT hI hB (lv_sub hl [0, 1, 2, 3] rfl)
  · replace hT := hT.2 hc
    refine lv_aload_n hx hb dJ2_add_2_6 rfl (lv_at hl 0 rfl) ?_
    obtain ⟨hL, hT⟩ := hT
    obtain ⟨mc6, ms7, hB, hT⟩ := hT
    refine x_call (x_runV (i := ob) hC hI hL rfl (um_J2_grow l D dA ad n0 Hs hC.2.2 mc6 ms7 σ ob _ hT) (lw_V q860 q862 qs17 q162 q863) 0 hdV_J2_grow ⟨rfl, rfl⟩ ⟨Nat.le_of_ble_eq_true rfl, Nat.le_of_ble_eq_true rfl⟩ rfl hl.1 rfl (Nat.le_of_ble_eq_true rfl) hB dJ2_add_2_7) hI (fun r5 σ4 H locs hT hI => ?_)
    refine W.eq (g2 := F0 m 10 ls [va_rf (rgR ad r5)]) rfl ?_
    refine x_astore_n (lv' := [(2, va_rf (rgR ad r5)), (0, .ref (ad ob)), (1, .ref (ad x1)), (3, .int x3)]) hx hb dJ2_add_2_10 rfl hl (Nat.le_of_ble_eq_true rfl) rfl (fun ls hl => ?_)
    exact w_11 r5 x3 (0 + mc6) (0 + ms7) σ4 _ _ _ hT hI hB (lv_sub hl [1, 2, 0, 3] rfl)
set_option maxHeartbeats 4000000 in
set_option maxRecDepth 100000 in
theorem um_J2_add (l : Launch) (D : va_G) (dA : Nat → ClassId) (ad : Nat → Nat) (n0 : Nat) (Hs : Heap) (hA : cAd ad n0 Hs.size) (mc ms : Nat) (σ : CS) (ob : Nat) (x1 : Nat) (K : Int32 → CS → Prop) (hT : U_J2_add mc ms σ ob x1 K) : Met l yJ2_add (ws_ yJ2_add cJ2_add 2 (some .boolean)) ({ frames := 7, cells := mc, slots := ms, locals := 150 }) (va_Pc [.ref (ad ob), .ref (ad x1)] (cU D dA ad n0 Hs σ)) (xQ rvI K (cU D dA ad n0 Hs) (cA ad)) mc ms (cA ad) := by
  refine xm_z hA (by decide) rfl (Nat.le_of_ble_eq_true rfl) ?_
  intro p e s m args below meth c Q hC hN hret hI ls hl
  have hx := hC.1.1
  have hb := hC.1.2.1
  have hB : 0 ≤ mc ∧ 0 ≤ ms := ⟨Nat.zero_le _, Nat.zero_le _⟩
  have hl : lv_has ls 2 [(0, .ref (ad ob)), (1, .ref (ad x1))] := hl
  unfold U_J2_add at hT
  refine lv_aload_n hx hb dJ2_add_0 rfl (lv_at hl 0 rfl) ?_
  refine lv_dup hx hb dJ2_add_1 rfl ?_
  obtain ⟨hL, hT⟩ := hT
  refine xg20_0 (i := ob) hC hI hL q232 (fun x h => u_same (hC.1.2.2.2.2 _ q233) x h) dJ2_add_2 ?_
  refine lv_iconst (v := 1) hx hb dJ2_add_5 (by decide) ?_
  refine lv_iadd hx hb dJ2_add_6 ?_
  obtain ⟨hic, hT⟩ := hT
  obtain ⟨hL, hT⟩ := hT
  refine xp20_0 (i := ob) (v := (gI σ ob 0) + 1) hC hI hic hL hT q232 (fun x h => u_same (hC.1.2.2.2.2 _ q233) x h) dJ2_add_7 (fun σ1 H locs hT hI => ?_)
  refine lv_aload_n hx hb dJ2_add_10 rfl (lv_at hl 0 rfl) ?_
  refine lv_aload_n hx hb dJ2_add_11 rfl (lv_at hl 1 rfl) ?_
  refine lv_aload_n hx hb dJ2_add_12 rfl (lv_at hl 0 rfl) ?_
  obtain ⟨hL, hT⟩ := hT
  refine xg20_1 (i := ob) hC hI hL q229 (fun _ h => h) dJ2_add_13 ?_
  refine lv_aload_n hx hb dJ2_add_16 rfl (lv_at hl 0 rfl) ?_
  obtain ⟨hL, hT⟩ := hT
  refine xg20_2 (i := ob) hC hI hL q230 (fun _ h => h) dJ2_add_17 ?_
  obtain ⟨q2, hq3, hT⟩ := hT
  refine W.eq (congrArg (fun z => F0 m 20 ls [.int (gI σ1 ob 2), z, .ref (ad x1), .ref (ad ob)]) (xrq hq3)) ?_
  obtain ⟨hL, hT⟩ := hT
  obtain ⟨mc6, ms7, hB, hT⟩ := hT
  refine x_call (x_runV (i := ob) hC hI hL rfl (um_J2_add_2 l D dA ad n0 Hs hC.2.2 mc6 ms7 σ1 ob x1 q2 (gI σ1 ob 2) _ hT) (lw_V q856 q858 qs16 q162 q859) 3 hdV_J2_add_2 ⟨rfl, rfl⟩ ⟨Nat.le_of_ble_eq_true rfl, Nat.le_of_ble_eq_true rfl⟩ rfl hl.1 rfl (Nat.le_of_ble_eq_true rfl) hB dJ2_add_20) hI (fun _ σ4 H locs hT hI => ?_)
  refine W.eq (g2 := F0 m 23 ls []) rfl ?_
  refine lv_iconst (v := 1) hx hb dJ2_add_23 (by decide) ?_
  exact hret _ _ _ _ _ _ _ _ rfl hT hI hB dJ2_add_24
