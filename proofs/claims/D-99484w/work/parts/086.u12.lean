def U_J3_init_2 (σ : CS) (ob : Nat) (x1 : Nat) (x2 : Nat) (x3 : Int32) (x4 : Int32) (K : Unit → CS → Prop) : Prop := ob < CB ∧ (gK σ ob = some kO3 ∧ (∀ σ1 : CS, σ1 = wR σ ob 0 (ob + 1) → (∀ u2 : Nat, (ob < CB ∧ (gK σ1 ob = some kO3 ∧ (∀ σ3 : CS, σ3 = wR σ1 ob 1 u2 → (∀ u4 : Nat, (ob < CB ∧ (gK σ3 ob = some kO3 ∧ (∀ σ5 : CS, σ5 = wR σ3 ob 2 u4 → (((x4 = 0 → (ob < CB ∧ (gK σ5 ob = some kO3 ∧ (∀ σ6 : CS, σ6 = wR σ5 ob 1 0 → (ob < CB ∧ (gK σ6 ob = some kO3 ∧ (∀ σ7 : CS, σ7 = wR σ6 ob 3 x1 → (ob < CB ∧ (gK σ7 ob = some kO3 ∧ (∀ σ8 : CS, σ8 = wR σ7 ob 0 x2 → (((¬ x3 = 0 → (K () σ8)) ∧ (x3 = 0 → (ob < CB ∧ (gK σ8 ob = some kO3 ∧ (∀ σ9 : CS, σ9 = wR σ8 ob 2 0 → (K () σ9))))))))))))))))) ∧ (¬ x4 = 0 → (False))))))))))))))
def U_J4_init (σ : CS) (ob : Nat) (x1 : Nat) (x2 : Nat) (x3 : Int32) (x4 : Int32) (K : Unit → CS → Prop) : Prop := U_J3_init_2 σ ob x1 x2 x3 x4 (fun _ σ1 => (K () σ1))
def U_J5_init (σ : CS) (ob : Nat) (x1 : Nat) (x2 : Nat) (x3 : Int32) (x4 : Int32) (K : Unit → CS → Prop) : Prop := U_J4_init σ ob x1 x2 x3 x4 (fun _ σ1 => (K () σ1))
def U_X3_init (σ : CS) (ob : Nat) (K : Unit → CS → Prop) : Prop := U_J5_init σ ob 0 0 0 0 (fun _ σ1 => (K () σ1))
def U_X4_init (mc ms : Nat) (σ : CS) (ob : Nat) (K : Unit → CS → Prop) : Prop := ¬ (10 : Int32) < 0 ∧ ((Int32.toNatClampNeg 10) ≤ 1000000 ∧ ((1 ≤ mc ∧ 0 + (Int32.toNatClampNeg 10) ≤ ms) ∧ (σ.1 < CB ∧ (∀ σ1 : CS, σ1 = nC σ (.inr (4, (Int32.toNatClampNeg 10))) → (ob < CB ∧ (gK σ1 ob = some kO4c ∧ (∀ σ2 : CS, σ2 = wR σ1 ob 0 ((σ.1) + 1) → (K () σ2))))))))
def U_X2_init (mc ms : Nat) (σ : CS) (ob : Nat) (x1 : Nat) (K : Unit → CS → Prop) : Prop := ob < CB ∧ (gK σ ob = some kO2c ∧ (∀ σ1 : CS, σ1 = wR σ ob 7 (x1 + 1) → ((1 ≤ mc ∧ 8 ≤ ms) ∧ (σ1.1 < CB ∧ (∀ σ2 : CS, σ2 = nC σ1 kO3 → (U_X3_init σ2 (σ1.1) (fun _ σ3 => (ob < CB ∧ (gK σ3 ob = some kO2c ∧ (∀ σ5 : CS, σ5 = wR σ3 ob 0 ((σ1.1) + 1) → (K () σ5)))))))))))
def U_X5_beginsC_17 (K : Unit → CS → Prop) (ob : Nat) : Nat → Int32 → CS → Prop
  | 0 => fun _ _ => False
  | n + 1 => fun x1 σ => ((8 ≤ x1 → (K () σ)) ∧ (¬ 8 ≤ x1 → (gK σ ob = some kO5c ∧ (∃ q1, (gR σ ob 2) = q1 + 1 ∧ (q1 < CB ∧ (gK σ q1 = some (.inr (0, gN σ q1)) ∧ (vp_in x1 (gN σ q1) ∧ (∀ σ3 : CS, σ3 = wI σ q1 (Int32.toNatClampNeg x1) 0 → (gK σ3 ob = some kO5c ∧ (∃ q4, (gR σ3 ob 3) = q4 + 1 ∧ (q4 < CB ∧ (gK σ3 q4 = some (.inr (0, gN σ3 q4)) ∧ (vp_in x1 (gN σ3 q4) ∧ (∀ σ6 : CS, σ6 = wI σ3 q4 (Int32.toNatClampNeg x1) 0 → (gK σ6 ob = some kO5c ∧ (∃ q7, (gR σ6 ob 4) = q7 + 1 ∧ (q7 < CB ∧ (gK σ6 q7 = some (.inr (0, gN σ6 q7)) ∧ (vp_in x1 (gN σ6 q7) ∧ (∀ σ9 : CS, σ9 = wI σ6 q7 (Int32.toNatClampNeg x1) 0 → (gK σ9 ob = some kO5c ∧ (∃ q10, (gR σ9 ob 5) = q10 + 1 ∧ (q10 < CB ∧ (gK σ9 q10 = some (.inr (0, gN σ9 q10)) ∧ (vp_in x1 (gN σ9 q10) ∧ (∀ σ12 : CS, σ12 = wI σ9 q10 (Int32.toNatClampNeg x1) 0 → (gK σ12 ob = some kO5c ∧ (∃ q13, (gR σ12 ob 6) = q13 + 1 ∧ (q13 < CB ∧ (gK σ12 q13 = some (.inr (2, gN σ12 q13)) ∧ (vp_in x1 (gN σ12 q13) ∧ (∀ σ15 : CS, σ15 = wI σ12 q13 (Int32.toNatClampNeg x1) (vp_nar .boolean 0) → (U_X5_beginsC_17 K ob n (x1 + 1) σ15)))))))))))))))))))))))))))))))))
def U_X5_beginsC (σ : CS) (ob : Nat) (K : Unit → CS → Prop) : Prop := ob < CB ∧ (gK σ ob = some kO5c ∧ (∀ σ16 : CS, σ16 = wI σ ob 0 0 → (ob < CB ∧ (gK σ16 ob = some kO5c ∧ (∀ σ17 : CS, σ17 = wI σ16 ob 1 0 → (ob < CB ∧ (gK σ17 ob = some kO5c ∧ (∀ σ18 : CS, σ18 = wI σ17 ob 9 (-1) → (∃ n17, U_X5_beginsC_17 K ob n17 0 σ18)))))))))
theorem hdS_J3_init_2 : yJ3_init_2.cls ≠ "java/lang/invoke/MethodHandle" ∧ yJ3_init_2.cls ≠ "java/lang/invoke/VarHandle" ∧ (parseMethodDescriptor yJ3_init_2.desc).map (fun d => d.parameters.length) = some 4 := by decide +kernel
theorem hdS_J4_init : yJ4_init.cls ≠ "java/lang/invoke/MethodHandle" ∧ yJ4_init.cls ≠ "java/lang/invoke/VarHandle" ∧ (parseMethodDescriptor yJ4_init.desc).map (fun d => d.parameters.length) = some 4 := by decide +kernel
theorem hdS_J5_init : yJ5_init.cls ≠ "java/lang/invoke/MethodHandle" ∧ yJ5_init.cls ≠ "java/lang/invoke/VarHandle" ∧ (parseMethodDescriptor yJ5_init.desc).map (fun d => d.parameters.length) = some 4 := by decide +kernel
theorem hdS_X3_init : yX3_init.cls ≠ "java/lang/invoke/MethodHandle" ∧ yX3_init.cls ≠ "java/lang/invoke/VarHandle" ∧ (parseMethodDescriptor yX3_init.desc).map (fun d => d.parameters.length) = some 0 := by decide +kernel
set_option maxHeartbeats 4000000 in
set_option maxRecDepth 100000 in
theorem um_J3_init_2 (l : Launch) (D : va_G) (dA : Nat → ClassId) (ad : Nat → Nat) (n0 : Nat) (Hs : Heap) (hA : cAd ad n0 Hs.size) (σ : CS) (ob : Nat) (x1 : Nat) (x2 : Nat) (x3 : Int32) (x4 : Int32) (K : Unit → CS → Prop) (hT : U_J3_init_2 σ ob x1 x2 x3 x4 K) : Met l yJ3_init_2 (ws_ yJ3_init_2 cJ3_init_2 5 (none)) ({ frames := 1, cells := 0, slots := 0, locals := 12 }) (va_Pc [.ref (ad ob), va_rf (rgR ad x1), va_rf (rgR ad x2), .int x3, .int x4] (cU D dA ad n0 Hs σ)) (xQ rvU K (cU D dA ad n0 Hs) (cA ad)) 0 0 (cA ad) := by
  refine xm_v hA (by decide) rfl (by cases x1 <;> cases x2 <;> exact (Nat.le_of_ble_eq_true rfl)) ?_
  intro p e s m args below meth c Q hC hN hret hI ls hl
  have hx := hC.1.1
  have hb := hC.1.2.1
  have hB : 0 ≤ 0 ∧ 0 ≤ 0 := ⟨Nat.zero_le _, Nat.zero_le _⟩
  have hl : lv_has ls 5 [(0, .ref (ad ob)), (1, va_rf (rgR ad x1)), (2, va_rf (rgR ad x2)), (3, .int x3), (4, .int x4)] := by cases x1 <;> cases x2 <;> exact hl
  unfold U_J3_init_2 at hT
  refine lv_aload_n hx hb dJ3_init_2_0 rfl (lv_at hl 0 rfl) ?_
  refine W.objInit hx hb hC.1.2.2.2.1 (hC.1.2.2.2.2 _ q316) (hC.1.2.2.2.2 _ q205) (hC.1.2.2.2.2 _ q206) rfl (by rw [hC.1.2.2.1]; exact hl.1) rfl dJ3_init_2_1 (Nat.le_of_ble_eq_true rfl) (Nat.le_of_ble_eq_true rfl) ?_
  refine W.eq (g2 := F0 m 4 ls []) rfl ?_
  refine lv_aload_n hx hb dJ3_init_2_4 rfl (lv_at hl 0 rfl) ?_
  refine lv_aload_n hx hb dJ3_init_2_5 rfl (lv_at hl 0 rfl) ?_
  obtain ⟨hic, hT⟩ := hT
  obtain ⟨hL, hT⟩ := hT
  refine xp3_0 (i := ob) (v := ob + 1) hC hI hic hL hT q348 (fun _ h => h) dJ3_init_2_6 (fun σ1 H locs hT hI => ?_)
  refine lv_aload_n hx hb dJ3_init_2_9 rfl (lv_at hl 0 rfl) ?_
  refine x_getsu hC hI (List.mem_of_getElem? (i := 0) rfl) q317 hT dJ3_init_2_10 (fun u2 hT => ?_)
  obtain ⟨hic, hT⟩ := hT
  obtain ⟨hL, hT⟩ := hT
  refine xp3_1 (i := ob) (v := u2) hC hI hic hL hT q349 (fun _ h => h) dJ3_init_2_13 (fun σ3 H locs hT hI => ?_)
  refine lv_aload_n hx hb dJ3_init_2_16 rfl (lv_at hl 0 rfl) ?_
  refine x_getsu hC hI (List.mem_of_getElem? (i := 1) rfl) q319 hT dJ3_init_2_17 (fun u4 hT => ?_)
  obtain ⟨hic, hT⟩ := hT
  obtain ⟨hL, hT⟩ := hT
  refine xp3_2 (i := ob) (v := u4) hC hI hic hL hT q350 (fun _ h => h) dJ3_init_2_20 (fun σ5 H locs hT hI => ?_)
  refine lv_iload hx hb dJ3_init_2_23 (lv_at hl 4 rfl) ?_
  refine lv_if_eq (tgt := 36) hx hb dJ3_init_2_25 (by decide) (fun hc => ?_) (fun hc => ?_)
  · replace hT := hT.1 hc
    refine lv_aload_n hx hb dJ3_init_2_36 rfl (lv_at hl 0 rfl) ?_
    refine lv_null hx hb dJ3_init_2_37 ?_
    obtain ⟨hic, hT⟩ := hT
    obtain ⟨hL, hT⟩ := hT
    refine xp3_1 (i := ob) (v := 0) hC hI hic hL hT q349 (fun _ h => h) dJ3_init_2_38 (fun σ6 H locs hT hI => ?_)
    refine lv_aload_n hx hb dJ3_init_2_41 rfl (lv_at hl 0 rfl) ?_
    refine x_aload_n hx hb dJ3_init_2_42 rfl (lv_at hl 1 rfl) ?_
    obtain ⟨hic, hT⟩ := hT
    obtain ⟨hL, hT⟩ := hT
    refine xp3_3 (i := ob) (v := x1) hC hI hic hL hT q347 (fun _ h => h) dJ3_init_2_43 (fun σ7 H locs hT hI => ?_)
    refine lv_aload_n hx hb dJ3_init_2_46 rfl (lv_at hl 0 rfl) ?_
    refine x_aload_n hx hb dJ3_init_2_47 rfl (lv_at hl 2 rfl) ?_
    obtain ⟨hic, hT⟩ := hT
    obtain ⟨hL, hT⟩ := hT
    refine xp3_0 (i := ob) (v := x2) hC hI hic hL hT q348 (fun _ h => h) dJ3_init_2_48 (fun σ8 H locs hT hI => ?_)
    refine lv_iload_n hx hb dJ3_init_2_51 rfl (lv_at hl 3 rfl) ?_
    refine lv_if_ne (tgt := 60) hx hb dJ3_init_2_52 (by decide) (fun hc => ?_) (fun hc => ?_)
    · replace hT := hT.1 hc
      exact hret _ _ _ _ _ _ _ _ hT hI hB dJ3_init_2_60
    · replace hT := hT.2 hc
      refine lv_aload_n hx hb dJ3_init_2_55 rfl (lv_at hl 0 rfl) ?_
      refine lv_null hx hb dJ3_init_2_56 ?_
      obtain ⟨hic, hT⟩ := hT
      obtain ⟨hL, hT⟩ := hT
      refine xp3_2 (i := ob) (v := 0) hC hI hic hL hT q350 (fun _ h => h) dJ3_init_2_57 (fun σ9 H locs hT hI => ?_)
      exact hret _ _ _ _ _ _ _ _ hT hI hB dJ3_init_2_60
  · replace hT := hT.2 hc
    exact hT.elim
set_option maxHeartbeats 4000000 in
set_option maxRecDepth 100000 in
theorem um_J4_init (l : Launch) (D : va_G) (dA : Nat → ClassId) (ad : Nat → Nat) (n0 : Nat) (Hs : Heap) (hA : cAd ad n0 Hs.size) (σ : CS) (ob : Nat) (x1 : Nat) (x2 : Nat) (x3 : Int32) (x4 : Int32) (K : Unit → CS → Prop) (hT : U_J4_init σ ob x1 x2 x3 x4 K) : Met l yJ4_init (ws_ yJ4_init cJ4_init 5 (none)) ({ frames := 2, cells := 0, slots := 0, locals := 36 }) (va_Pc [.ref (ad ob), va_rf (rgR ad x1), va_rf (rgR ad x2), .int x3, .int x4] (cU D dA ad n0 Hs σ)) (xQ rvU K (cU D dA ad n0 Hs) (cA ad)) 0 0 (cA ad) := by
  refine xm_v hA (by decide) rfl (by cases x1 <;> cases x2 <;> exact (Nat.le_of_ble_eq_true rfl)) ?_
  intro p e s m args below meth c Q hC hN hret hI ls hl
  have hx := hC.1.1
  have hb := hC.1.2.1
  have hB : 0 ≤ 0 ∧ 0 ≤ 0 := ⟨Nat.zero_le _, Nat.zero_le _⟩
  have hl : lv_has ls 5 [(0, .ref (ad ob)), (1, va_rf (rgR ad x1)), (2, va_rf (rgR ad x2)), (3, .int x3), (4, .int x4)] := by cases x1 <;> cases x2 <;> exact hl
  unfold U_J4_init at hT
  refine lv_aload_n hx hb dJ4_init_0 rfl (lv_at hl 0 rfl) ?_
  refine x_aload_n hx hb dJ4_init_1 rfl (lv_at hl 1 rfl) ?_
  refine x_aload_n hx hb dJ4_init_2 rfl (lv_at hl 2 rfl) ?_
  refine lv_iload_n hx hb dJ4_init_3 rfl (lv_at hl 3 rfl) ?_
  refine lv_iload hx hb dJ4_init_4 (lv_at hl 4 rfl) ?_
  refine x_call (x_runI (i := ob) hC hI (um_J3_init_2 l D dA ad n0 Hs hC.2.2 σ ob x1 x2 x3 x4 _ hT) q341 q164 q339 q340 rfl 4 hdS_J3_init_2 ⟨rfl, rfl⟩ ⟨Nat.le_of_ble_eq_true rfl, Nat.le_of_ble_eq_true rfl⟩ rfl hl.1 rfl (Nat.le_of_ble_eq_true rfl) hB dJ4_init_6) hI (fun _ σ1 H locs hT hI => ?_)
  refine W.eq (g2 := F0 m 9 ls []) rfl ?_
  exact hret _ _ _ _ _ _ _ _ hT hI hB dJ4_init_9
set_option maxHeartbeats 4000000 in
set_option maxRecDepth 100000 in
theorem um_J5_init (l : Launch) (D : va_G) (dA : Nat → ClassId) (ad : Nat → Nat) (n0 : Nat) (Hs : Heap) (hA : cAd ad n0 Hs.size) (σ : CS) (ob : Nat) (x1 : Nat) (x2 : Nat) (x3 : Int32) (x4 : Int32) (K : Unit → CS → Prop) (hT : U_J5_init σ ob x1 x2 x3 x4 K) : Met l yJ5_init (ws_ yJ5_init cJ5_init 5 (none)) ({ frames := 3, cells := 0, slots := 0, locals := 60 }) (va_Pc [.ref (ad ob), va_rf (rgR ad x1), va_rf (rgR ad x2), .int x3, .int x4] (cU D dA ad n0 Hs σ)) (xQ rvU K (cU D dA ad n0 Hs) (cA ad)) 0 0 (cA ad) := by
  refine xm_v hA (by decide) rfl (by cases x1 <;> cases x2 <;> exact (Nat.le_of_ble_eq_true rfl)) ?_
  intro p e s m args below meth c Q hC hN hret hI ls hl
  have hx := hC.1.1
  have hb := hC.1.2.1
  have hB : 0 ≤ 0 ∧ 0 ≤ 0 := ⟨Nat.zero_le _, Nat.zero_le _⟩
  have hl : lv_has ls 5 [(0, .ref (ad ob)), (1, va_rf (rgR ad x1)), (2, va_rf (rgR ad x2)), (3, .int x3), (4, .int x4)] := by cases x1 <;> cases x2 <;> exact hl
  unfold U_J5_init at hT
  refine lv_aload_n hx hb dJ5_init_0 rfl (lv_at hl 0 rfl) ?_
  refine x_aload_n hx hb dJ5_init_1 rfl (lv_at hl 1 rfl) ?_
  refine x_aload_n hx hb dJ5_init_2 rfl (lv_at hl 2 rfl) ?_
  refine lv_iload_n hx hb dJ5_init_3 rfl (lv_at hl 3 rfl) ?_
  refine lv_iload hx hb dJ5_init_4 (lv_at hl 4 rfl) ?_
  refine x_call (x_runI (i := ob) hC hI (um_J4_init l D dA ad n0 Hs hC.2.2 σ ob x1 x2 x3 x4 _ hT) q338 q165 q336 q337 rfl 4 hdS_J4_init ⟨rfl, rfl⟩ ⟨Nat.le_of_ble_eq_true rfl, Nat.le_of_ble_eq_true rfl⟩ rfl hl.1 rfl (Nat.le_of_ble_eq_true rfl) hB dJ5_init_6) hI (fun _ σ1 H locs hT hI => ?_)
  refine W.eq (g2 := F0 m 9 ls []) rfl ?_
  exact hret _ _ _ _ _ _ _ _ hT hI hB dJ5_init_9
set_option maxHeartbeats 4000000 in
set_option maxRecDepth 100000 in
theorem um_X3_init (l : Launch) (D : va_G) (dA : Nat → ClassId) (ad : Nat → Nat) (n0 : Nat) (Hs : Heap) (hA : cAd ad n0 Hs.size) (σ : CS) (ob : Nat) (K : Unit → CS → Prop) (hT : U_X3_init σ ob K) : Met l yX3_init (ws_ yX3_init cX3_init 1 (none)) ({ frames := 4, cells := 0, slots := 0, locals := 84 }) (va_Pc [.ref (ad ob)] (cU D dA ad n0 Hs σ)) (xQ rvU K (cU D dA ad n0 Hs) (cA ad)) 0 0 (cA ad) := by
  refine xm_v hA (by decide) rfl (Nat.le_of_ble_eq_true rfl) ?_
  intro p e s m args below meth c Q hC hN hret hI ls hl
  have hx := hC.1.1
  have hb := hC.1.2.1
  have hB : 0 ≤ 0 ∧ 0 ≤ 0 := ⟨Nat.zero_le _, Nat.zero_le _⟩
  have hl : lv_has ls 1 [(0, .ref (ad ob))] := hl
  unfold U_X3_init at hT
  refine lv_aload_n hx hb dX3_init_0 rfl (lv_at hl 0 rfl) ?_
  refine lv_null hx hb dX3_init_1 ?_
  refine lv_null hx hb dX3_init_2 ?_
  refine lv_iconst (v := 0) hx hb dX3_init_3 (by decide) ?_
  refine lv_iconst (v := 0) hx hb dX3_init_4 (by decide) ?_
  refine x_call (x_runI (i := ob) hC hI (um_J5_init l D dA ad n0 Hs hC.2.2 σ ob 0 0 0 0 _ hT) q335 q166 q333 q334 rfl 4 hdS_J5_init ⟨rfl, rfl⟩ ⟨Nat.le_of_ble_eq_true rfl, Nat.le_of_ble_eq_true rfl⟩ rfl hl.1 rfl (Nat.le_of_ble_eq_true rfl) hB dX3_init_5) hI (fun _ σ1 H locs hT hI => ?_)
  refine W.eq (g2 := F0 m 8 ls []) rfl ?_
  exact hret _ _ _ _ _ _ _ _ hT hI hB dX3_init_8
set_option maxHeartbeats 4000000 in
set_option maxRecDepth 100000 in
theorem um_X4_init (l : Launch) (D : va_G) (dA : Nat → ClassId) (ad : Nat → Nat) (n0 : Nat) (Hs : Heap) (hA : cAd ad n0 Hs.size) (mc ms : Nat) (σ : CS) (ob : Nat) (K : Unit → CS → Prop) (hT : U_X4_init mc ms σ ob K) : Met l yX4_init (ws_ yX4_init cX4_init 1 (none)) ({ frames := 1, cells := mc, slots := ms, locals := 12 }) (va_Pc [.ref (ad ob)] (cU D dA ad n0 Hs σ)) (xQ rvU K (cU D dA ad n0 Hs) (cA ad)) mc ms (cA ad) := by
  refine xm_v hA (by decide) rfl (Nat.le_of_ble_eq_true rfl) ?_
  intro p e s m args below meth c Q hC hN hret hI ls hl
  have hx := hC.1.1
  have hb := hC.1.2.1
  have hB : 0 ≤ mc ∧ 0 ≤ ms := ⟨Nat.zero_le _, Nat.zero_le _⟩
  have hl : lv_has ls 1 [(0, .ref (ad ob))] := hl
  unfold U_X4_init at hT
  refine lv_aload_n hx hb dX4_init_0 rfl (lv_at hl 0 rfl) ?_
  refine W.objInit hx hb hC.1.2.2.2.1 (hC.1.2.2.2.2 _ q394) (hC.1.2.2.2.2 _ q205) (hC.1.2.2.2.2 _ q206) rfl (by rw [hC.1.2.2.1]; exact hl.1) rfl dX4_init_1 (Nat.le_of_ble_eq_true rfl) (Nat.le_of_ble_eq_true rfl) ?_
  refine W.eq (g2 := F0 m 4 ls []) rfl ?_
  refine lv_aload_n hx hb dX4_init_4 rfl (lv_at hl 0 rfl) ?_
  refine lv_bipush (v := 10) hx hb dX4_init_5 (by decide) ?_
  have hB := hT.2.2.1
  refine xnewa4 hC hI hT dX4_init_7 (fun σ1 H hT hI => ?_)
  obtain ⟨hic, hT⟩ := hT
  obtain ⟨hL, hT⟩ := hT
  refine xpF4c_0 (i := ob) (v := (σ.1) + 1) hC hI hN rfl hic hL hT q395 (fun _ h => h) dX4_init_9 (fun σ2 H locs hT hI => ?_)
  exact hret _ _ _ _ _ _ _ _ hT hI hB dX4_init_12
set_option maxHeartbeats 4000000 in
set_option maxRecDepth 100000 in
theorem um_X2_init (l : Launch) (D : va_G) (dA : Nat → ClassId) (ad : Nat → Nat) (n0 : Nat) (Hs : Heap) (hA : cAd ad n0 Hs.size) (mc ms : Nat) (σ : CS) (ob : Nat) (x1 : Nat) (K : Unit → CS → Prop) (hT : U_X2_init mc ms σ ob x1 K) : Met l yX2_init (ws_ yX2_init cX2_init 2 (none)) ({ frames := 5, cells := mc, slots := ms, locals := 104 }) (va_Pc [.ref (ad ob), .ref (ad x1)] (cU D dA ad n0 Hs σ)) (xQ rvU K (cU D dA ad n0 Hs) (cA ad)) mc ms (cA ad) := by
  refine xm_v hA (by decide) rfl (Nat.le_of_ble_eq_true rfl) ?_
  intro p e s m args below meth c Q hC hN hret hI ls hl
  have hx := hC.1.1
  have hb := hC.1.2.1
  have hB : 0 ≤ mc ∧ 0 ≤ ms := ⟨Nat.zero_le _, Nat.zero_le _⟩
  have hl : lv_has ls 2 [(0, .ref (ad ob)), (1, .ref (ad x1))] := hl
  unfold U_X2_init at hT
  refine lv_aload_n hx hb dX2_init_0 rfl (lv_at hl 0 rfl) ?_
  refine lv_aload_n hx hb dX2_init_1 rfl (lv_at hl 1 rfl) ?_
  obtain ⟨hic, hT⟩ := hT
  obtain ⟨hL, hT⟩ := hT
  refine xpF2c_7 (i := ob) (v := x1 + 1) hC hI hN rfl hic hL hT q371 (fun _ h => h) dX2_init_2 (fun σ1 H locs hT hI => ?_)
  refine lv_aload_n hx hb dX2_init_5 rfl (lv_at hl 0 rfl) ?_
  refine W.objInit hx hb hC.1.2.2.2.1 (hC.1.2.2.2.2 _ q290) (hC.1.2.2.2.2 _ q205) (hC.1.2.2.2.2 _ q206) rfl (by rw [hC.1.2.2.1]; exact hl.1) rfl dX2_init_6 (Nat.le_of_ble_eq_true rfl) (Nat.le_of_ble_eq_true rfl) ?_
  refine W.eq (g2 := F0 m 9 ls []) rfl ?_
  refine lv_aload_n hx hb dX2_init_9 rfl (lv_at hl 0 rfl) ?_
  have hB := hT.1
  refine xnew3 hC hI q291 hT dX2_init_10 (fun σ2 H hT hI => ?_)
  refine lv_dup hx hb dX2_init_13 rfl ?_
  refine x_call (x_runI (i := σ1.1) hC hI (um_X3_init l D dA ad n0 Hs hC.2.2 σ2 (σ1.1) _ hT) q332 q167 q330 q331 rfl 0 hdS_X3_init ⟨rfl, rfl⟩ ⟨Nat.le_of_ble_eq_true rfl, Nat.le_of_ble_eq_true rfl⟩ rfl hl.1 rfl (Nat.le_of_ble_eq_true rfl) hB dX2_init_14) hI (fun _ σ3 H locs hT hI => ?_)
  refine W.eq (g2 := F0 m 17 ls [.ref (ad (σ1.1)), .ref (ad ob)]) rfl ?_
  obtain ⟨hic, hT⟩ := hT
  obtain ⟨hL, hT⟩ := hT
  refine xpF2c_0 (i := ob) (v := (σ1.1) + 1) hC hI hN rfl hic hL hT q364 (fun _ h => h) dX2_init_17 (fun σ5 H locs hT hI => ?_)
  exact hret _ _ _ _ _ _ _ _ hT hI hB dX2_init_20
set_option maxHeartbeats 4000000 in
set_option maxRecDepth 100000 in
theorem um_X5_beginsC (l : Launch) (D : va_G) (dA : Nat → ClassId) (ad : Nat → Nat) (n0 : Nat) (Hs : Heap) (hA : cAd ad n0 Hs.size) (σ : CS) (ob : Nat) (K : Unit → CS → Prop) (hT : U_X5_beginsC σ ob K) : Met l yX5_begins (ws_ yX5_begins cX5_begins 2 (none)) ({ frames := 1, cells := 0, slots := 0, locals := 12 }) (va_Pc [.ref (ad ob)] (cU D dA ad n0 Hs σ)) (xQ rvU K (cU D dA ad n0 Hs) (cA ad)) 0 0 (cA ad) := by
  refine xm_v hA (by decide) rfl (Nat.le_of_ble_eq_true rfl) ?_
  intro p e s m args below meth c Q hC hN hret hI ls hl
  have hx := hC.1.1
  have hb := hC.1.2.1
  have hB : 0 ≤ 0 ∧ 0 ≤ 0 := ⟨Nat.zero_le _, Nat.zero_le _⟩
  have hl : lv_has ls 2 [(0, .ref (ad ob))] := hl
  have w_17 : ∀ (n : Nat) (x1 : Int32) (σ : CS) (H : Heap) (locs : List Loc) (ls : Array Slot), U_X5_beginsC_17 K ob n x1 σ → xI D dA ad n0 Hs s.heap σ H locs → lv_has ls 2 [(0, .ref (ad ob)), (1, .int x1)] → W p l e ({ frames := 1, cells := 0, slots := 0, locals := 12 }) s m args below meth c H locs 0 0 Q (F0 m 17 ls []) := by
    intro n
    induction n with
    | zero => intro x1 σ H locs ls hT; exact hT.elim
    | succ n ih =>
      intro x1 σ H locs ls hT hI hl
      unfold U_X5_beginsC_17 at hT
      refine lv_iload_n hx hb dX5_begins_17 rfl (lv_at hl 1 rfl) ?_
      refine lv_bipush (v := 8) hx hb dX5_begins_18 (by decide) ?_
      refine lv_icmp_ge (tgt := 64) hx hb dX5_begins_20 (by decide) (fun hc => ?_) (fun hc => ?_)
      · replace hT := hT.1 hc
        exact hret _ _ _ _ _ _ _ _ hT hI hB dX5_begins_64
      · replace hT := hT.2 hc
        refine lv_aload_n hx hb dX5_begins_23 rfl (lv_at hl 0 rfl) ?_
        obtain ⟨hL, hT⟩ := hT
        refine xg5c_2 (i := ob) hC hI hL q415 (fun _ h => h) dX5_begins_24 ?_
        refine lv_iload_n hx hb dX5_begins_27 rfl (lv_at hl 1 rfl) ?_
        refine lv_iconst (v := 0) hx hb dX5_begins_28 (by decide) ?_
        obtain ⟨q1, hq2, hT⟩ := hT
        refine W.eq (congrArg (fun z => F0 m 29 ls [.int 0, .int x1, z]) (xrq hq2)) ?_
        obtain ⟨hic, hT⟩ := hT
        obtain ⟨hL, hT⟩ := hT
        refine x_iast (i := q1) hC hI hic hL hT dX5_begins_29 (fun σ3 H locs hT hI => ?_)
        refine lv_aload_n hx hb dX5_begins_30 rfl (lv_at hl 0 rfl) ?_
        obtain ⟨hL, hT⟩ := hT
        refine xg5c_3 (i := ob) hC hI hL q417 (fun _ h => h) dX5_begins_31 ?_
        refine lv_iload_n hx hb dX5_begins_34 rfl (lv_at hl 1 rfl) ?_
        refine lv_iconst (v := 0) hx hb dX5_begins_35 (by decide) ?_
        obtain ⟨q4, hq5, hT⟩ := hT
        refine W.eq (congrArg (fun z => F0 m 36 ls [.int 0, .int x1, z]) (xrq hq5)) ?_
        obtain ⟨hic, hT⟩ := hT
        obtain ⟨hL, hT⟩ := hT
        refine x_iast (i := q4) hC hI hic hL hT dX5_begins_36 (fun σ6 H locs hT hI => ?_)
        refine lv_aload_n hx hb dX5_begins_37 rfl (lv_at hl 0 rfl) ?_
        obtain ⟨hL, hT⟩ := hT
        refine xg5c_4 (i := ob) hC hI hL q419 (fun _ h => h) dX5_begins_38 ?_
        refine lv_iload_n hx hb dX5_begins_41 rfl (lv_at hl 1 rfl) ?_
        refine lv_iconst (v := 0) hx hb dX5_begins_42 (by decide) ?_
        obtain ⟨q7, hq8, hT⟩ := hT
        refine W.eq (congrArg (fun z => F0 m 43 ls [.int 0, .int x1, z]) (xrq hq8)) ?_
        obtain ⟨hic, hT⟩ := hT
        obtain ⟨hL, hT⟩ := hT
        refine x_iast (i := q7) hC hI hic hL hT dX5_begins_43 (fun σ9 H locs hT hI => ?_)
        refine lv_aload_n hx hb dX5_begins_44 rfl (lv_at hl 0 rfl) ?_
        obtain ⟨hL, hT⟩ := hT
        refine xg5c_5 (i := ob) hC hI hL q421 (fun _ h => h) dX5_begins_45 ?_
        refine lv_iload_n hx hb dX5_begins_48 rfl (lv_at hl 1 rfl) ?_
        refine lv_iconst (v := 0) hx hb dX5_begins_49 (by decide) ?_
        obtain ⟨q10, hq11, hT⟩ := hT
        refine W.eq (congrArg (fun z => F0 m 50 ls [.int 0, .int x1, z]) (xrq hq11)) ?_
        obtain ⟨hic, hT⟩ := hT
        obtain ⟨hL, hT⟩ := hT
        refine x_iast (i := q10) hC hI hic hL hT dX5_begins_50 (fun σ12 H locs hT hI => ?_)
        refine lv_aload_n hx hb dX5_begins_51 rfl (lv_at hl 0 rfl) ?_
        obtain ⟨hL, hT⟩ := hT
        refine xg5c_6 (i := ob) hC hI hL q423 (fun _ h => h) dX5_begins_52 ?_
        refine lv_iload_n hx hb dX5_begins_55 rfl (lv_at hl 1 rfl) ?_
        refine lv_iconst (v := 0) hx hb dX5_begins_56 (by decide) ?_
        obtain ⟨q13, hq14, hT⟩ := hT
        refine W.eq (congrArg (fun z => F0 m 57 ls [.int 0, .int x1, z]) (xrq hq14)) ?_
        obtain ⟨hic, hT⟩ := hT
        obtain ⟨hL, hT⟩ := hT
        refine x_zast (i := q13) hC hI hic hL hT dX5_begins_57 (fun σ15 H locs hT hI => ?_)
        refine lv_iinc (v := x1 + 1) (lv' := [(1, .int (x1 + 1)), (0, .ref (ad ob))]) hx hb dX5_begins_58 hl (k := 1) rfl rfl (Nat.le_of_ble_eq_true rfl) rfl (fun ls hl => ?_)
        refine lv_goto (tgt := 17) hx hb dX5_begins_61 (by decide) ?_
        exact ih (x1 + 1) σ15 _ _ _ hT hI (lv_sub hl [1, 0] rfl)
  unfold U_X5_beginsC at hT
  refine lv_aload_n hx hb dX5_begins_0 rfl (lv_at hl 0 rfl) ?_
  refine lv_iconst (v := 0) hx hb dX5_begins_1 (by decide) ?_
  obtain ⟨hic, hT⟩ := hT
  obtain ⟨hL, hT⟩ := hT
  refine xp5c_0 (i := ob) (v := 0) hC hI hic hL hT q411 (fun _ h => h) dX5_begins_2 (fun σ16 H locs hT hI => ?_)
  refine lv_aload_n hx hb dX5_begins_5 rfl (lv_at hl 0 rfl) ?_
  refine lv_iconst (v := 0) hx hb dX5_begins_6 (by decide) ?_
  obtain ⟨hic, hT⟩ := hT
  obtain ⟨hL, hT⟩ := hT
  refine xp5c_1 (i := ob) (v := 0) hC hI hic hL hT q413 (fun _ h => h) dX5_begins_7 (fun σ17 H locs hT hI => ?_)
  refine lv_aload_n hx hb dX5_begins_10 rfl (lv_at hl 0 rfl) ?_
  refine lv_iconst (v := -1) hx hb dX5_begins_11 (by decide) ?_
  obtain ⟨hic, hT⟩ := hT
  obtain ⟨hL, hT⟩ := hT
  refine xp5c_9 (i := ob) (v := -1) hC hI hic hL hT q429 (fun _ h => h) dX5_begins_12 (fun σ18 H locs hT hI => ?_)
  refine lv_iconst (v := 0) hx hb dX5_begins_15 (by decide) ?_
  refine lv_istore_n (lv' := [(1, .int 0), (0, .ref (ad ob))]) hx hb dX5_begins_16 rfl hl (Nat.le_of_ble_eq_true rfl) rfl (fun ls hl => ?_)
  obtain ⟨n17, hT⟩ := hT
  exact w_17 n17 0 σ18 _ _ _ hT hI (lv_sub hl [1, 0] rfl)
