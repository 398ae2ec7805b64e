def U_X0_island_28 (mc ms : Nat) (K : Int32 → CS → Prop) (cx : Nat) (zx : Nat) (σ : CS) : Prop := ∀ σ1 : CS, σ1 = wI σ 0 3 (gI σ 10 6) → (∀ σ2 : CS, σ2 = wI σ1 0 4 (gI σ1 10 7) → (U_X0_refuses σ2 1 (fun r4 σ3 => (K r4 σ3))))
def U_X0_island (mc ms : Nat) (σ : CS) (K : Int32 → CS → Prop) : Prop := ∀ σ5 : CS, σ5 = wI σ 0 3 0 → (∀ σ6 : CS, σ6 = wI σ5 0 4 (-1) → (U_X0_taken σ6 (fun r8 σ7 => (∃ mc11 ms12 : Nat, (0 + mc11 ≤ mc ∧ 0 + ms12 ≤ ms) ∧ (U_X2_all mc11 ms12 σ7 r8 (fun r10 σ9 => (∀ σ13 : CS, σ13 = wR σ9 0 0 r10 → (U_X5_begins σ13 16 (fun _ σ14 => (∀ σ16 : CS, σ16 = wI σ14 0 15 0 → (∃ q17, (gR σ16 0 0) = q17 + 1 ∧ (gK σ16 q17 = some kO1 ∧ (K (gI σ16 q17 0) σ16)))))))) (fun σx => U_X0_island_28 mc ms K (0 + mc11) (0 + ms12) σx))))))
def U_X0_ask_243 (mc ms : Nat) (K : Int64 → CS → Prop) (k53 : Nat → Nat → CS → Prop) (x2 : Nat) (s0 : Int64) (s1 : Int32) (cx : Nat) (zx : Nat) (σ : CS) : Prop := vp_in s1 10 ∧ (∀ σ1 : CS, σ1 = wL σ 14 (Int32.toNatClampNeg s1) s0 → (∃ q2, x2 = q2 + 1 ∧ (gK σ1 q2 = some kO19 ∧ (U_X22_meets σ1 q2 (gI σ1 0 17) 13 (fun _ σ3 => (∀ σ5 : CS, σ5 = wI σ3 0 17 ((gI σ3 0 17) + 1) → (k53 cx zx σ5)))))))
def U_X0_ask_53 (mc ms : Nat) (K : Int64 → CS → Prop) (x2 : Nat) : Nat → Nat → Nat → CS → Prop
  | 0 => fun _ _ _ => False
  | n + 1 => fun cx zx σ => U_X0_things σ (fun r7 σ6 => (((r7 ≤ (gI σ 0 17) → (∃ q8, x2 = q8 + 1 ∧ (gK σ6 q8 = some kO19 ∧ (U_X22_answer σ6 q8 (fun r10 σ9 => (K r10 σ9)))))) ∧ (¬ r7 ≤ (gI σ 0 17) → (U_X0_thingOf σ6 (gI σ6 0 17) (fun r12 σ11 => (∃ q13, r12 = q13 + 1 ∧ (gK σ11 q13 = some kO7 ∧ (vp_in 0 10 ∧ (∀ σ14 : CS, σ14 = wL σ11 14 (Int32.toNatClampNeg 0) (Int32.toInt64 (gI σ11 q13 1)) → (gK σ14 q13 = some kO7 ∧ (vp_in 1 10 ∧ (∀ σ15 : CS, σ15 = wL σ14 14 (Int32.toNatClampNeg 1) (Int32.toInt64 (gI σ14 q13 2)) → (gK σ15 q13 = some kO7 ∧ (vp_in 2 10 ∧ (∀ σ16 : CS, σ16 = wL σ15 14 (Int32.toNatClampNeg 2) (Int32.toInt64 (gI σ15 q13 3)) → (vp_in (gI σ16 0 17) 8 ∧ (vp_in 3 10 ∧ (∀ σ17 : CS, σ17 = wL σ16 14 (Int32.toNatClampNeg 3) (Int32.toInt64 (gI σ16 18 (Int32.toNatClampNeg (gI σ16 0 17)))) → (vp_in (gI σ17 0 17) 8 ∧ (vp_in 4 10 ∧ (∀ σ18 : CS, σ18 = wL σ17 14 (Int32.toNatClampNeg 4) (Int32.toInt64 (gI σ17 19 (Int32.toNatClampNeg (gI σ17 0 17)))) → (vp_in 5 10 ∧ (∀ σ19 : CS, σ19 = wL σ18 14 (Int32.toNatClampNeg 5) (Int32.toInt64 (gI σ18 16 0)) → (vp_in (gI σ19 0 17) 8 ∧ (vp_in 6 10 ∧ (∀ σ20 : CS, σ20 = wL σ19 14 (Int32.toNatClampNeg 6) (Int32.toInt64 (gI σ19 20 (Int32.toNatClampNeg (gI σ19 0 17)))) → (vp_in 8 10 ∧ (∀ σ21 : CS, σ21 = wL σ20 14 (Int32.toNatClampNeg 8) (Int32.toInt64 (gI σ20 0 17)) → (vp_in (gI σ21 0 17) 8 ∧ ((((gI σ21 21 (Int32.toNatClampNeg (gI σ21 0 17))) = (0 : Int32) → (U_X0_ask_243 mc ms K (U_X0_ask_53 mc ms K x2 n) x2 0 9 cx zx σ21)) ∧ (¬ (gI σ21 21 (Int32.toNatClampNeg (gI σ21 0 17))) = (0 : Int32) → (U_X0_ask_243 mc ms K (U_X0_ask_53 mc ms K x2 n) x2 1 9 cx zx σ21))))))))))))))))))))))))))))))))))
def U_X0_ask_27 (mc ms : Nat) (K : Int64 → CS → Prop) (cx : Nat) (zx : Nat) (σ : CS) : Prop := ∀ σ22 : CS, σ22 = wI σ 0 3 (gI σ 10 6) → (∀ σ23 : CS, σ23 = wI σ22 0 4 (gI σ22 10 7) → (K (-1000000000000000) σ23))
def U_X0_ask (mc ms : Nat) (σ : CS) (K : Int64 → CS → Prop) : Prop := U_X0_taken σ (fun r25 σ24 => (∀ σ26 : CS, σ26 = wI σ24 0 3 0 → (∀ σ27 : CS, σ27 = wI σ26 0 4 (-1) → (∃ mc30 ms31 : Nat, (0 + mc30 ≤ mc ∧ 0 + ms31 ≤ ms) ∧ (U_X2_question mc30 ms31 σ27 r25 (fun r29 σ28 => (∀ σ32 : CS, σ32 = wI σ28 0 17 0 → (∃ n53, U_X0_ask_53 mc ms K r29 n53 (0 + mc30) (0 + ms31) σ32))) (fun σx => U_X0_ask_27 mc ms K (0 + mc30) (0 + ms31) σx))))))
theorem hdV_X22_answer : yX22_answer.cls = RX22 ∧ yX22_answer.cls ≠ "java/lang/invoke/MethodHandle" ∧ yX22_answer.cls ≠ "java/lang/invoke/VarHandle" ∧ (parseMethodDescriptor yX22_answer.desc).map (fun d => d.parameters.length) = some 0 := by decide +kernel
theorem hdV_X22_meets : yX22_meets.cls = RX22 ∧ yX22_meets.cls ≠ "java/lang/invoke/MethodHandle" ∧ yX22_meets.cls ≠ "java/lang/invoke/VarHandle" ∧ (parseMethodDescriptor yX22_meets.desc).map (fun d => d.parameters.length) = some 2 := by decide +kernel
theorem hdV_X2_all : yX2_all.cls = RX2 ∧ yX2_all.cls ≠ "java/lang/invoke/MethodHandle" ∧ yX2_all.cls ≠ "java/lang/invoke/VarHandle" ∧ (parseMethodDescriptor yX2_all.desc).map (fun d => d.parameters.length) = some 1 := by decide +kernel
theorem hdV_X2_question : yX2_question.cls = RX2 ∧ yX2_question.cls ≠ "java/lang/invoke/MethodHandle" ∧ yX2_question.cls ≠ "java/lang/invoke/VarHandle" ∧ (parseMethodDescriptor yX2_question.desc).map (fun d => d.parameters.length) = some 1 := by decide +kernel
theorem hdV_X5_begins : yX5_begins.cls = RX5 ∧ yX5_begins.cls ≠ "java/lang/invoke/MethodHandle" ∧ yX5_begins.cls ≠ "java/lang/invoke/VarHandle" ∧ (parseMethodDescriptor yX5_begins.desc).map (fun d => d.parameters.length) = some 0 := by decide +kernel
set_option maxHeartbeats 4000000 in
set_option maxRecDepth 100000 in
theorem um_X0_island (l : Launch) (D : va_G) (dA : Nat → ClassId) (ad : Nat → Nat) (Hs : Heap) (hA : cAd ad 1296 Hs.size) (mc ms : Nat) (σ : CS) (K : Int32 → CS → Prop) (hT : U_X0_island mc ms σ K) : Met l yX0_island (wsW_ yX0_island cX0_island 2 (some .int) [(10, 25, 28, 120)]) ({ frames := 158, cells := mc, slots := ms, locals := 3426 }) (va_Pc [.ref (ad 0)] (cU D dA ad 1296 Hs σ)) (xQ rvI K (cU D dA ad 1296 Hs) (cA ad)) mc ms (cA ad) := by
  refine xm_iH hA (by decide) rfl (Nat.le_of_ble_eq_true rfl) ?_
  intro p e s m args below meth c Q hC hN htab hret hI ls hl
  have hx := hC.1.1
  have hb := hC.1.2.1
  have hB : 0 ≤ mc ∧ 0 ≤ ms := ⟨Nat.zero_le _, Nat.zero_le _⟩
  have hl : lv_has ls 2 [(0, .ref (ad 0))] := hl
  have w_28 : ∀ (cx : Nat) (zx : Nat) (σ : CS) (H : Heap) (locs : List Loc) (ls : Array Slot), U_X0_island_28 mc ms K cx zx σ → xI D dA ad 1296 Hs s.heap σ H locs → (cx ≤ mc ∧ zx ≤ ms) → lv_has ls 2 [(0, .ref (ad 0))] → W p l e ({ frames := 158, cells := mc, slots := ms, locals := 3426 }) s m args below meth c H locs cx zx Q (F0 m 28 ls [.ref (ad 10)]) := by
    intro cx zx σ H locs ls hT hI hB hl
    unfold U_X0_island_28 at hT
    refine lv_astore_n (lv' := [(1, .ref (ad 10)), (0, .ref (ad 0))]) hx hb dX0_island_28 rfl hl (Nat.le_of_ble_eq_true rfl) rfl (fun ls hl => ?_)
    refine lv_aload_n hx hb dX0_island_29 rfl (lv_at hl 1 rfl) ?_
    refine lv_aload_n hx hb dX0_island_30 rfl (lv_at hl 0 rfl) ?_
    refine xgN3_6 (i := 10) hC hI (xst hI (Nat.le_of_ble_eq_true rfl) sl_10) q343 (fun _ h => h) dX0_island_31 ?_
    refine xp0_3 (i := 0) (v := gI σ 10 6) hC hI (Nat.lt_of_lt_of_le (show _ < 1296 from (Nat.le_of_ble_eq_true rfl)) (by decide)) (xst hI (Nat.le_of_ble_eq_true rfl) sl_0) hT q474 (fun _ h => h) dX0_island_34 (fun σ1 H locs hT hI => ?_)
    refine lv_aload_n hx hb dX0_island_37 rfl (lv_at hl 1 rfl) ?_
    refine lv_aload_n hx hb dX0_island_38 rfl (lv_at hl 0 rfl) ?_
    refine xgN3_7 (i := 10) hC hI (xst hI (Nat.le_of_ble_eq_true rfl) sl_10) q345 (fun _ h => h) dX0_island_39 ?_
    refine xp0_4 (i := 0) (v := gI σ1 10 7) hC hI (Nat.lt_of_lt_of_le (show _ < 1296 from (Nat.le_of_ble_eq_true rfl)) (by decide)) (xst hI (Nat.le_of_ble_eq_true rfl) sl_0) hT q475 (fun _ h => h) dX0_island_42 (fun σ2 H locs hT hI => ?_)
    refine lv_aload_n hx hb dX0_island_45 rfl (lv_at hl 1 rfl) ?_
    refine lv_iconst (v := 1) hx hb dX0_island_46 (by decide) ?_
    refine x_call (x_runV (i := 0) hC hI (xst hI (Nat.le_of_ble_eq_true rfl) sl_0) rfl (um_X0_refuses l D dA ad Hs hC.2.2 σ2 1 _ hT) (lw_V q537 q539 qs1 q158 q540) 1 hdV_X0_refuses ⟨rfl, rfl⟩ ⟨Nat.le_of_ble_eq_true rfl, Nat.le_of_ble_eq_true rfl⟩ rfl hl.1 rfl (Nat.le_of_ble_eq_true rfl) hB dX0_island_47) hI (fun r4 σ3 H locs hT hI => ?_)
    refine W.eq (g2 := F0 m 50 ls [.int r4]) rfl ?_
    exact hret _ _ _ _ _ _ _ _ hT hI hB dX0_island_50
  unfold U_X0_island at hT
  refine lv_aload_n hx hb dX0_island_0 rfl (lv_at hl 0 rfl) ?_
  refine lv_iconst (v := 0) hx hb dX0_island_1 (by decide) ?_
  refine xp0_3 (i := 0) (v := 0) hC hI (Nat.lt_of_lt_of_le (show _ < 1296 from (Nat.le_of_ble_eq_true rfl)) (by decide)) (xst hI (Nat.le_of_ble_eq_true rfl) sl_0) hT q474 (fun _ h => h) dX0_island_2 (fun σ5 H locs hT hI => ?_)
  refine lv_aload_n hx hb dX0_island_5 rfl (lv_at hl 0 rfl) ?_
  refine lv_iconst (v := -1) hx hb dX0_island_6 (by decide) ?_
  refine xp0_4 (i := 0) (v := -1) hC hI (Nat.lt_of_lt_of_le (show _ < 1296 from (Nat.le_of_ble_eq_true rfl)) (by decide)) (xst hI (Nat.le_of_ble_eq_true rfl) sl_0) hT q475 (fun _ h => h) dX0_island_7 (fun σ6 H locs hT hI => ?_)
  refine lv_aload_n hx hb dX0_island_10 rfl (lv_at hl 0 rfl) ?_
  refine lv_aload_n hx hb dX0_island_11 rfl (lv_at hl 0 rfl) ?_
  refine xg0_5 (i := 0) hC hI (xst hI (Nat.le_of_ble_eq_true rfl) sl_0) q476 (fun _ h => h) dX0_island_12 ?_
  refine lv_aload_n hx hb dX0_island_15 rfl (lv_at hl 0 rfl) ?_
  refine x_call (x_runV (i := 0) hC hI (xst hI (Nat.le_of_ble_eq_true rfl) sl_0) rfl (um_X0_taken l D dA ad Hs hC.2.2 σ6 _ hT) (lw_V q554 q556 qs3 q158 q557) 0 hdV_X0_taken ⟨rfl, rfl⟩ ⟨Nat.le_of_ble_eq_true rfl, Nat.le_of_ble_eq_true rfl⟩ rfl hl.1 rfl (Nat.le_of_ble_eq_true rfl) hB dX0_island_16) hI (fun r8 σ7 H locs hT hI => ?_)
  refine W.eq (g2 := F0 m 19 ls [.int r8, .ref (ad 9), .ref (ad 0)]) rfl ?_
  obtain ⟨mc11, ms12, hB, hT⟩ := hT
  refine t_call (t_runV (i := 9) hC hI (xst hI (Nat.le_of_ble_eq_true rfl) sl_9) rfl (um_X2_all l D dA ad Hs hC.2.2 mc11 ms12 σ7 r8 _ _ hT) (lw_V q558 q559 q560 q163 q561) 1 hdV_X2_all ⟨rfl, rfl⟩ ⟨Nat.le_of_ble_eq_true rfl, Nat.le_of_ble_eq_true rfl⟩ rfl hl.1 rfl (Nat.le_of_ble_eq_true rfl) hB dX0_island_19) hI (fun σx H1 locs1 hT h10 hI => x_catch hC hI h10 htab (by decide) (by exact w_28 (0 + mc11) (0 + ms12) σx _ _ _ hT hI hB (lv_sub hl [0] rfl))) (fun r10 σ9 H locs hT hI => ?_)
  refine W.eq (g2 := F0 m 22 ls [va_rf (rgR ad r10), .ref (ad 0)]) rfl ?_
  refine xp0_0 (i := 0) (v := r10) hC hI (Nat.lt_of_lt_of_le (show _ < 1296 from (Nat.le_of_ble_eq_true rfl)) (by decide)) (xst hI (Nat.le_of_ble_eq_true rfl) sl_0) hT q469 (fun _ h => h) dX0_island_22 (fun σ13 H locs hT hI => ?_)
  refine lv_goto (tgt := 51) hx hb dX0_island_25 (by decide) ?_
  refine lv_aload_n hx hb dX0_island_51 rfl (lv_at hl 0 rfl) ?_
  refine xg0_9 (i := 0) hC hI (xst hI (Nat.le_of_ble_eq_true rfl) sl_0) q481 (fun _ h => h) dX0_island_52 ?_
  refine x_call (x_runV (i := 16) hC hI (xst hI (st_lt (Or.inl rfl : stOK 16) (d := 0) (by decide)) (sls_0 (Or.inl rfl : stOK 16))) rfl (um_X5_begins l D dA ad Hs hC.2.2 σ13 16 (Or.inl rfl : stOK 16) _ hT) (lw_V q465 q466 q467 q169 q468) 0 hdV_X5_begins ⟨rfl, rfl⟩ ⟨Nat.le_of_ble_eq_true rfl, Nat.le_of_ble_eq_true rfl⟩ rfl hl.1 rfl (Nat.le_of_ble_eq_true rfl) hB dX0_island_55) hI (fun _ σ14 H locs hT hI => ?_)
  refine W.eq (g2 := F0 m 58 ls []) rfl ?_
  refine lv_aload_n hx hb dX0_island_58 rfl (lv_at hl 0 rfl) ?_
  refine lv_iconst (v := 0) hx hb dX0_island_59 (by decide) ?_
  refine xp0_15 (i := 0) (v := 0) hC hI (Nat.lt_of_lt_of_le (show _ < 1296 from (Nat.le_of_ble_eq_true rfl)) (by decide)) (xst hI (Nat.le_of_ble_eq_true rfl) sl_0) hT q487 (fun _ h => h) dX0_island_60 (fun σ16 H locs hT hI => ?_)
  refine lv_aload_n hx hb dX0_island_63 rfl (lv_at hl 0 rfl) ?_
  refine xg0_0 (i := 0) hC hI (xst hI (Nat.le_of_ble_eq_true rfl) sl_0) q469 (fun _ h => h) dX0_island_64 ?_
  obtain ⟨q17, hq18, hT⟩ := hT
  refine W.eq (congrArg (fun z => F0 m 67 ls [z]) (xrq hq18)) ?_
  obtain ⟨hL, hT⟩ := hT
  refine xgN1_0 (i := q17) hC hI hL q241 (fun _ h => h) dX0_island_67 ?_
  exact hret _ _ _ _ _ _ _ _ hT hI hB dX0_island_70
set_option maxHeartbeats 4000000 in
set_option maxRecDepth 100000 in
theorem um_X0_ask (l : Launch) (D : va_G) (dA : Nat → ClassId) (ad : Nat → Nat) (Hs : Heap) (hA : cAd ad 1296 Hs.size) (mc ms : Nat) (σ : CS) (K : Int64 → CS → Prop) (hT : U_X0_ask mc ms σ K) : Met l yX0_ask (wsW_ yX0_ask cX0_ask 4 (some .long) [(15, 24, 27, 120)]) ({ frames := 902, cells := mc, slots := ms, locals := 18551 }) (va_Pc [.ref (ad 0)] (cU D dA ad 1296 Hs σ)) (xQ rvL K (cU D dA ad 1296 Hs) (cA ad)) mc ms (cA ad) := by
  refine xm_lH hA (by decide) rfl (Nat.le_of_ble_eq_true rfl) ?_
  intro p e s m args below meth c Q hC hN htab hret hI ls hl
  have hx := hC.1.1
  have hb := hC.1.2.1
  have hB : 0 ≤ mc ∧ 0 ≤ ms := ⟨Nat.zero_le _, Nat.zero_le _⟩
  have hl : lv_has ls 4 [(0, .ref (ad 0))] := hl
  have w_243 : ∀ (x2 : Nat) (k53 : Nat → Nat → CS → Prop), (∀ (cx : Nat) (zx : Nat) (σ : CS) (H : Heap) (locs : List Loc) (ls : Array Slot), k53 cx zx σ → xI D dA ad 1296 Hs s.heap σ H locs → (cx ≤ mc ∧ zx ≤ ms) → lv_has ls 4 [(0, .ref (ad 0)), (2, va_rf (rgR ad x2))] → W p l e ({ frames := 902, cells := mc, slots := ms, locals := 18551 }) s m args below meth c H locs cx zx Q (F0 m 53 ls [])) → ∀ (s0 : Int64) (s1 : Int32) (cx : Nat) (zx : Nat) (σ : CS) (H : Heap) (locs : List Loc) (ls : Array Slot), U_X0_ask_243 mc ms K k53 x2 s0 s1 cx zx σ → xI D dA ad 1296 Hs s.heap σ H locs → (cx ≤ mc ∧ zx ≤ ms) → lv_has ls 4 [(0, .ref (ad 0)), (2, va_rf (rgR ad x2))] → W p l e ({ frames := 902, cells := mc, slots := ms, locals := 18551 }) s m args below meth c H locs cx zx Q (F0 m 243 ls [.long s0, .int s1, .ref (ad 14)]) := by
    intro x2 k53 hk53 s0 s1 cx zx σ H locs ls hT hI hB hl
    unfold U_X0_ask_243 at hT
    refine x_last (i := 14) hC hI (Nat.lt_of_lt_of_le (show _ < 1296 from (Nat.le_of_ble_eq_true rfl)) (by decide)) (xst hI (Nat.le_of_ble_eq_true rfl) sl_14) hT dX0_ask_243 (fun σ1 H locs hT hI => ?_)
    refine x_aload_n hx hb dX0_ask_244 rfl (lv_at hl 1 rfl) ?_
    refine lv_aload_n hx hb dX0_ask_245 rfl (lv_at hl 0 rfl) ?_
    refine xg0_17 (i := 0) hC hI (xst hI (Nat.le_of_ble_eq_true rfl) sl_0) q489 (fun _ h => h) dX0_ask_246 ?_
    refine lv_aload_n hx hb dX0_ask_249 rfl (lv_at hl 0 rfl) ?_
    refine xg0_7 (i := 0) hC hI (xst hI (Nat.le_of_ble_eq_true rfl) sl_0) q479 (fun _ h => h) dX0_ask_250 ?_
    obtain ⟨q2, hqe_q2, hT_q2⟩ := hT
    have hl_q2 := hl
    subst hqe_q2
    replace hT := hT_q2
    refine W.eq (g2 := F0 m 253 ls [.ref (ad 13), .int (gI σ1 0 17), .ref (ad q2)]) rfl ?_
    have hl : lv_has ls 4 [(0, .ref (ad 0)), (2, .ref (ad q2))] := hl_q2
    obtain ⟨hL, hT⟩ := hT
    refine x_call (x_runV (i := q2) hC hI hL rfl (um_X22_meets l D dA ad Hs hC.2.2 σ1 q2 (gI σ1 0 17) 13 (Or.inr rfl) _ hT) (lw_V q1655 q1656 q1657 q198 q1658) 2 hdV_X22_meets ⟨rfl, rfl⟩ ⟨Nat.le_of_ble_eq_true rfl, Nat.le_of_ble_eq_true rfl⟩ rfl hl.1 rfl (Nat.le_of_ble_eq_true rfl) hB dX0_ask_253) hI (fun _ σ3 H locs hT hI => ?_)
    refine W.eq (g2 := F0 m 256 ls []) rfl ?_
    refine lv_aload_n hx hb dX0_ask_256 rfl (lv_at hl 0 rfl) ?_
    refine lv_dup hx hb dX0_ask_257 rfl ?_
    refine xg0_17 (i := 0) hC hI (xst hI (Nat.le_of_ble_eq_true rfl) sl_0) q489 (fun _ h => h) dX0_ask_258 ?_
    refine lv_iconst (v := 1) hx hb dX0_ask_261 (by decide) ?_
    refine lv_iadd hx hb dX0_ask_262 ?_
    refine xp0_17 (i := 0) (v := (gI σ3 0 17) + 1) hC hI (Nat.lt_of_lt_of_le (show _ < 1296 from (Nat.le_of_ble_eq_true rfl)) (by decide)) (xst hI (Nat.le_of_ble_eq_true rfl) sl_0) hT q489 (fun _ h => h) dX0_ask_263 (fun σ5 H locs hT hI => ?_)
    refine lv_goto (tgt := 53) hx hb dX0_ask_266 (by decide) ?_
    exact hk53 cx zx σ5 _ _ _ hT hI hB (lv_sub hl [0, 1] rfl)
  have w_53 : ∀ (x2 : Nat) (n : Nat) (cx : Nat) (zx : Nat) (σ : CS) (H : Heap) (locs : List Loc) (ls : Array Slot), U_X0_ask_53 mc ms K x2 n cx zx σ → xI D dA ad 1296 Hs s.heap σ H locs → (cx ≤ mc ∧ zx ≤ ms) → lv_has ls 4 [(0, .ref (ad 0)), (2, va_rf (rgR ad x2))] → W p l e ({ frames := 902, cells := mc, slots := ms, locals := 18551 }) s m args below meth c H locs cx zx Q (F0 m 53 ls []) := by
    intro x2 n
    induction n with
    | zero => intro cx zx σ H locs ls hT; exact hT.elim
    | succ n ih =>
      intro cx zx σ H locs ls hT hI hB hl
      unfold U_X0_ask_53 at hT
      refine lv_aload_n hx hb dX0_ask_53 rfl (lv_at hl 0 rfl) ?_
      refine xg0_17 (i := 0) hC hI (xst hI (Nat.le_of_ble_eq_true rfl) sl_0) q489 (fun _ h => h) dX0_ask_54 ?_
      refine lv_aload_n hx hb dX0_ask_57 rfl (lv_at hl 0 rfl) ?_
      refine x_call (x_runV (i := 0) hC hI (xst hI (Nat.le_of_ble_eq_true rfl) sl_0) rfl (um_X0_things l D dA ad Hs hC.2.2 σ _ hT) (lw_V q1249 q1251 qs34 q158 q1252) 0 hdV_X0_things ⟨rfl, rfl⟩ ⟨Nat.le_of_ble_eq_true rfl, Nat.le_of_ble_eq_true rfl⟩ rfl hl.1 rfl (Nat.le_of_ble_eq_true rfl) hB dX0_ask_58) hI (fun r7 σ6 H locs hT hI => ?_)
      refine W.eq (g2 := F0 m 61 ls [.int r7, .int (gI σ 0 17)]) rfl ?_
      refine lv_icmp_ge (tgt := 269) hx hb dX0_ask_61 (by decide) (fun hc => ?_) (fun hc => ?_)
      · replace hT := hT.1 hc
        refine x_aload_n hx hb dX0_ask_269 rfl (lv_at hl 1 rfl) ?_
        obtain ⟨q8, hqe_q8, hT_q8⟩ := hT
        have hl_q8 := hl
        subst hqe_q8
        replace hT := hT_q8
        refine W.eq (g2 := F0 m 270 ls [.ref (ad q8)]) rfl ?_
        have hl : lv_has ls 4 [(0, .ref (ad 0)), (2, .ref (ad q8))] := hl_q8
        obtain ⟨hL, hT⟩ := hT
        refine x_call (x_runV (i := q8) hC hI hL rfl (um_X22_answer l D dA ad 1296 Hs hC.2.2 σ6 q8 _ hT) (lw_V q1663 q1664 q1665 q198 q1666) 0 hdV_X22_answer ⟨rfl, rfl⟩ ⟨Nat.le_of_ble_eq_true rfl, Nat.le_of_ble_eq_true rfl⟩ rfl hl.1 rfl (Nat.le_of_ble_eq_true rfl) hB dX0_ask_270) hI (fun r10 σ9 H locs hT hI => ?_)
        refine W.eq (g2 := F0 m 273 ls [.long r10]) rfl ?_
        exact hret _ _ _ _ _ _ _ _ hT hI hB dX0_ask_273
      · replace hT := hT.2 hc
        refine lv_aload_n hx hb dX0_ask_64 rfl (lv_at hl 0 rfl) ?_
        refine lv_aload_n hx hb dX0_ask_65 rfl (lv_at hl 0 rfl) ?_
        refine xg0_17 (i := 0) hC hI (xst hI (Nat.le_of_ble_eq_true rfl) sl_0) q489 (fun _ h => h) dX0_ask_66 ?_
        refine x_call (x_runV (i := 0) hC hI (xst hI (Nat.le_of_ble_eq_true rfl) sl_0) rfl (um_X0_thingOf l D dA ad Hs hC.2.2 σ6 (gI σ6 0 17) _ hT) (lw_V q1393 q1292 qs39 q158 q1293) 1 hdV_X0_thingOf ⟨rfl, rfl⟩ ⟨Nat.le_of_ble_eq_true rfl, Nat.le_of_ble_eq_true rfl⟩ rfl hl.1 rfl (Nat.le_of_ble_eq_true rfl) hB dX0_ask_69) hI (fun r12 σ11 H locs hT hI => ?_)
        refine W.eq (g2 := F0 m 72 ls [va_rf (rgR ad r12)]) rfl ?_
        refine x_astore_n (i := 3) (lv' := [(3, va_rf (rgR ad r12)), (0, .ref (ad 0)), (2, va_rf (rgR ad x2))]) hx hb dX0_ask_72 rfl hl (Nat.le_of_ble_eq_true rfl) (by simp [va_rf_cat, vc_int, vc_long, vc_ref, vc_null]) (fun ls hl => ?_)
        refine lv_aload_n hx hb dX0_ask_73 rfl (lv_at hl 1 rfl) ?_
        refine xg0_7 (i := 0) hC hI (xst hI (Nat.le_of_ble_eq_true rfl) sl_0) q479 (fun _ h => h) dX0_ask_74 ?_
        refine xgN4_0 (i := 13) hC hI (xst hI (Nat.le_of_ble_eq_true rfl) sl_13) q398 (fun _ h => h) dX0_ask_77 ?_
        refine lv_iconst (v := 0) hx hb dX0_ask_80 (by decide) ?_
        refine x_aload_n hx hb dX0_ask_81 rfl (lv_at hl 0 rfl) ?_
        obtain ⟨q13, hqe_q13, hT_q13⟩ := hT
        have hl_q13 := hl
        subst hqe_q13
        replace hT := hT_q13
        refine W.eq (g2 := F0 m 82 ls [.ref (ad q13), .int 0, .ref (ad 14)]) rfl ?_
        have hl : lv_has ls 4 [(3, .ref (ad q13)), (0, .ref (ad 0)), (2, va_rf (rgR ad x2))] := hl_q13
        obtain ⟨hL, hT⟩ := hT
        refine xgN7_1 (i := q13) hC hI hL q830 (fun _ h => h) dX0_ask_82 ?_
        refine lv_i2l hx hb dX0_ask_85 rfl ?_
        refine x_last (i := 14) hC hI (Nat.lt_of_lt_of_le (show _ < 1296 from (Nat.le_of_ble_eq_true rfl)) (by decide)) (xst hI (Nat.le_of_ble_eq_true rfl) sl_14) hT dX0_ask_86 (fun σ14 H locs hT hI => ?_)
        refine lv_aload_n hx hb dX0_ask_87 rfl (lv_at hl 1 rfl) ?_
        refine xg0_7 (i := 0) hC hI (xst hI (Nat.le_of_ble_eq_true rfl) sl_0) q479 (fun _ h => h) dX0_ask_88 ?_
        refine xgN4_0 (i := 13) hC hI (xst hI (Nat.le_of_ble_eq_true rfl) sl_13) q398 (fun _ h => h) dX0_ask_91 ?_
        refine lv_iconst (v := 1) hx hb dX0_ask_94 (by decide) ?_
        refine lv_aload_n hx hb dX0_ask_95 rfl (lv_at hl 0 rfl) ?_
        obtain ⟨hL, hT⟩ := hT
        refine xgN7_2 (i := q13) hC hI hL q833 (fun _ h => h) dX0_ask_96 ?_
        refine lv_i2l hx hb dX0_ask_99 rfl ?_
        refine x_last (i := 14) hC hI (Nat.lt_of_lt_of_le (show _ < 1296 from (Nat.le_of_ble_eq_true rfl)) (by decide)) (xst hI (Nat.le_of_ble_eq_true rfl) sl_14) hT dX0_ask_100 (fun σ15 H locs hT hI => ?_)
        refine lv_aload_n hx hb dX0_ask_101 rfl (lv_at hl 1 rfl) ?_
        refine xg0_7 (i := 0) hC hI (xst hI (Nat.le_of_ble_eq_true rfl) sl_0) q479 (fun _ h => h) dX0_ask_102 ?_
        refine xgN4_0 (i := 13) hC hI (xst hI (Nat.le_of_ble_eq_true rfl) sl_13) q398 (fun _ h => h) dX0_ask_105 ?_
        refine lv_iconst (v := 2) hx hb dX0_ask_108 (by decide) ?_
        refine lv_aload_n hx hb dX0_ask_109 rfl (lv_at hl 0 rfl) ?_
        obtain ⟨hL, hT⟩ := hT
        refine xgN7_3 (i := q13) hC hI hL q836 (fun _ h => h) dX0_ask_110 ?_
        refine lv_i2l hx hb dX0_ask_113 rfl ?_
        refine x_last (i := 14) hC hI (Nat.lt_of_lt_of_le (show _ < 1296 from (Nat.le_of_ble_eq_true rfl)) (by decide)) (xst hI (Nat.le_of_ble_eq_true rfl) sl_14) hT dX0_ask_114 (fun σ16 H locs hT hI => ?_)
        refine lv_aload_n hx hb dX0_ask_115 rfl (lv_at hl 1 rfl) ?_
        refine xg0_7 (i := 0) hC hI (xst hI (Nat.le_of_ble_eq_true rfl) sl_0) q479 (fun _ h => h) dX0_ask_116 ?_
        refine xgN4_0 (i := 13) hC hI (xst hI (Nat.le_of_ble_eq_true rfl) sl_13) q398 (fun _ h => h) dX0_ask_119 ?_
        refine lv_iconst (v := 3) hx hb dX0_ask_122 (by decide) ?_
        refine lv_aload_n hx hb dX0_ask_123 rfl (lv_at hl 1 rfl) ?_
        refine xg0_9 (i := 0) hC hI (xst hI (Nat.le_of_ble_eq_true rfl) sl_0) q481 (fun _ h => h) dX0_ask_124 ?_
        refine xgN5_3 (i := 16) hC hI (xst hI (st_lt (Or.inl rfl : stOK 16) (d := 0) (by decide)) (sls_0 (Or.inl rfl : stOK 16))) q418 (fun _ h => h) dX0_ask_127 ?_
        refine lv_aload_n hx hb dX0_ask_130 rfl (lv_at hl 1 rfl) ?_
        refine xg0_17 (i := 0) hC hI (xst hI (Nat.le_of_ble_eq_true rfl) sl_0) q489 (fun _ h => h) dX0_ask_131 ?_
        refine x_iald (i := 18) hC hI (xst hI (st_lt (Or.inl rfl : stOK 16) (d := 2) (by decide)) (sls_2 (Or.inl rfl : stOK 16))) hT dX0_ask_134 (fun hT => ?_)
        refine lv_i2l hx hb dX0_ask_135 rfl ?_
        refine x_last (i := 14) hC hI (Nat.lt_of_lt_of_le (show _ < 1296 from (Nat.le_of_ble_eq_true rfl)) (by decide)) (xst hI (Nat.le_of_ble_eq_true rfl) sl_14) hT dX0_ask_136 (fun σ17 H locs hT hI => ?_)
        refine lv_aload_n hx hb dX0_ask_137 rfl (lv_at hl 1 rfl) ?_
        refine xg0_7 (i := 0) hC hI (xst hI (Nat.le_of_ble_eq_true rfl) sl_0) q479 (fun _ h => h) dX0_ask_138 ?_
        refine xgN4_0 (i := 13) hC hI (xst hI (Nat.le_of_ble_eq_true rfl) sl_13) q398 (fun _ h => h) dX0_ask_141 ?_
        refine lv_iconst (v := 4) hx hb dX0_ask_144 (by decide) ?_
        refine lv_aload_n hx hb dX0_ask_145 rfl (lv_at hl 1 rfl) ?_
        refine xg0_9 (i := 0) hC hI (xst hI (Nat.le_of_ble_eq_true rfl) sl_0) q481 (fun _ h => h) dX0_ask_146 ?_
        refine xgN5_4 (i := 16) hC hI (xst hI (st_lt (Or.inl rfl : stOK 16) (d := 0) (by decide)) (sls_0 (Or.inl rfl : stOK 16))) q420 (fun _ h => h) dX0_ask_149 ?_
        refine lv_aload_n hx hb dX0_ask_152 rfl (lv_at hl 1 rfl) ?_
        refine xg0_17 (i := 0) hC hI (xst hI (Nat.le_of_ble_eq_true rfl) sl_0) q489 (fun _ h => h) dX0_ask_153 ?_
        refine x_iald (i := 19) hC hI (xst hI (st_lt (Or.inl rfl : stOK 16) (d := 3) (by decide)) (sls_3 (Or.inl rfl : stOK 16))) hT dX0_ask_156 (fun hT => ?_)
        refine lv_i2l hx hb dX0_ask_157 rfl ?_
        refine x_last (i := 14) hC hI (Nat.lt_of_lt_of_le (show _ < 1296 from (Nat.le_of_ble_eq_true rfl)) (by decide)) (xst hI (Nat.le_of_ble_eq_true rfl) sl_14) hT dX0_ask_158 (fun σ18 H locs hT hI => ?_)
        refine lv_aload_n hx hb dX0_ask_159 rfl (lv_at hl 1 rfl) ?_
        refine xg0_7 (i := 0) hC hI (xst hI (Nat.le_of_ble_eq_true rfl) sl_0) q479 (fun _ h => h) dX0_ask_160 ?_
        refine xgN4_0 (i := 13) hC hI (xst hI (Nat.le_of_ble_eq_true rfl) sl_13) q398 (fun _ h => h) dX0_ask_163 ?_
        refine lv_iconst (v := 5) hx hb dX0_ask_166 (by decide) ?_
        refine lv_aload_n hx hb dX0_ask_167 rfl (lv_at hl 1 rfl) ?_
        refine xg0_9 (i := 0) hC hI (xst hI (Nat.le_of_ble_eq_true rfl) sl_0) q481 (fun _ h => h) dX0_ask_168 ?_
        refine xgN5_0 (i := 16) hC hI (xst hI (st_lt (Or.inl rfl : stOK 16) (d := 0) (by decide)) (sls_0 (Or.inl rfl : stOK 16))) q412 (fun _ h => h) dX0_ask_171 ?_
        refine lv_i2l hx hb dX0_ask_174 rfl ?_
        refine x_last (i := 14) hC hI (Nat.lt_of_lt_of_le (show _ < 1296 from (Nat.le_of_ble_eq_true rfl)) (by decide)) (xst hI (Nat.le_of_ble_eq_true rfl) sl_14) hT dX0_ask_175 (fun σ19 H locs hT hI => ?_)
        refine lv_aload_n hx hb dX0_ask_176 rfl (lv_at hl 1 rfl) ?_
        refine xg0_7 (i := 0) hC hI (xst hI (Nat.le_of_ble_eq_true rfl) sl_0) q479 (fun _ h => h) dX0_ask_177 ?_
        refine xgN4_0 (i := 13) hC hI (xst hI (Nat.le_of_ble_eq_true rfl) sl_13) q398 (fun _ h => h) dX0_ask_180 ?_
        refine lv_bipush (v := 6) hx hb dX0_ask_183 (by decide) ?_
        refine lv_aload_n hx hb dX0_ask_185 rfl (lv_at hl 1 rfl) ?_
        refine xg0_9 (i := 0) hC hI (xst hI (Nat.le_of_ble_eq_true rfl) sl_0) q481 (fun _ h => h) dX0_ask_186 ?_
        refine xgN5_5 (i := 16) hC hI (xst hI (st_lt (Or.inl rfl : stOK 16) (d := 0) (by decide)) (sls_0 (Or.inl rfl : stOK 16))) q422 (fun _ h => h) dX0_ask_189 ?_
        refine lv_aload_n hx hb dX0_ask_192 rfl (lv_at hl 1 rfl) ?_
        refine xg0_17 (i := 0) hC hI (xst hI (Nat.le_of_ble_eq_true rfl) sl_0) q489 (fun _ h => h) dX0_ask_193 ?_
        refine x_iald (i := 20) hC hI (xst hI (st_lt (Or.inl rfl : stOK 16) (d := 4) (by decide)) (sls_4 (Or.inl rfl : stOK 16))) hT dX0_ask_196 (fun hT => ?_)
        refine lv_i2l hx hb dX0_ask_197 rfl ?_
        refine x_last (i := 14) hC hI (Nat.lt_of_lt_of_le (show _ < 1296 from (Nat.le_of_ble_eq_true rfl)) (by decide)) (xst hI (Nat.le_of_ble_eq_true rfl) sl_14) hT dX0_ask_198 (fun σ20 H locs hT hI => ?_)
        refine lv_aload_n hx hb dX0_ask_199 rfl (lv_at hl 1 rfl) ?_
        refine xg0_7 (i := 0) hC hI (xst hI (Nat.le_of_ble_eq_true rfl) sl_0) q479 (fun _ h => h) dX0_ask_200 ?_
        refine xgN4_0 (i := 13) hC hI (xst hI (Nat.le_of_ble_eq_true rfl) sl_13) q398 (fun _ h => h) dX0_ask_203 ?_
        refine lv_bipush (v := 8) hx hb dX0_ask_206 (by decide) ?_
        refine lv_aload_n hx hb dX0_ask_208 rfl (lv_at hl 1 rfl) ?_
        refine xg0_17 (i := 0) hC hI (xst hI (Nat.le_of_ble_eq_true rfl) sl_0) q489 (fun _ h => h) dX0_ask_209 ?_
        refine lv_i2l hx hb dX0_ask_212 rfl ?_
        refine x_last (i := 14) hC hI (Nat.lt_of_lt_of_le (show _ < 1296 from (Nat.le_of_ble_eq_true rfl)) (by decide)) (xst hI (Nat.le_of_ble_eq_true rfl) sl_14) hT dX0_ask_213 (fun σ21 H locs hT hI => ?_)
        refine lv_aload_n hx hb dX0_ask_214 rfl (lv_at hl 1 rfl) ?_
        refine xg0_7 (i := 0) hC hI (xst hI (Nat.le_of_ble_eq_true rfl) sl_0) q479 (fun _ h => h) dX0_ask_215 ?_
        refine xgN4_0 (i := 13) hC hI (xst hI (Nat.le_of_ble_eq_true rfl) sl_13) q398 (fun _ h => h) dX0_ask_218 ?_
        refine lv_bipush (v := 9) hx hb dX0_ask_221 (by decide) ?_
        refine lv_aload_n hx hb dX0_ask_223 rfl (lv_at hl 1 rfl) ?_
        refine xg0_9 (i := 0) hC hI (xst hI (Nat.le_of_ble_eq_true rfl) sl_0) q481 (fun _ h => h) dX0_ask_224 ?_
        refine xgN5_6 (i := 16) hC hI (xst hI (st_lt (Or.inl rfl : stOK 16) (d := 0) (by decide)) (sls_0 (Or.inl rfl : stOK 16))) q424 (fun _ h => h) dX0_ask_227 ?_
        refine lv_aload_n hx hb dX0_ask_230 rfl (lv_at hl 1 rfl) ?_
        refine xg0_17 (i := 0) hC hI (xst hI (Nat.le_of_ble_eq_true rfl) sl_0) q489 (fun _ h => h) dX0_ask_231 ?_
        refine x_zald (i := 21) hC hI (xst hI (st_lt (Or.inl rfl : stOK 16) (d := 5) (by decide)) (sls_5 (Or.inl rfl : stOK 16))) hT dX0_ask_234 (fun hT => ?_)
        refine lv_if_eq (tgt := 242) hx hb dX0_ask_235 (by decide) (fun hc => ?_) (fun hc => ?_)
        · replace hT := hT.1 hc
          refine lv_lconst (v := 0) hx hb dX0_ask_242 (by decide) ?_
          exact w_243 x2 (U_X0_ask_53 mc ms K x2 n) (ih) 0 9 cx zx σ21 _ _ _ hT hI hB (lv_sub hl [1, 2] rfl)
        · replace hT := hT.2 hc
          refine lv_lconst (v := 1) hx hb dX0_ask_238 (by decide) ?_
          refine lv_goto (tgt := 243) hx hb dX0_ask_239 (by decide) ?_
          exact w_243 x2 (U_X0_ask_53 mc ms K x2 n) (ih) 1 9 cx zx σ21 _ _ _ hT hI hB (lv_sub hl [1, 2] rfl)
  have w_27 : ∀ (cx : Nat) (zx : Nat) (σ : CS) (H : Heap) (locs : List Loc) (ls : Array Slot), U_X0_ask_27 mc ms K cx zx σ → xI D dA ad 1296 Hs s.heap σ H locs → (cx ≤ mc ∧ zx ≤ ms) → lv_has ls 4 [(0, .ref (ad 0))] → W p l e ({ frames := 902, cells := mc, slots := ms, locals := 18551 }) s m args below meth c H locs cx zx Q (F0 m 27 ls [.ref (ad 10)]) := by
    intro cx zx σ H locs ls hT hI hB hl
    unfold U_X0_ask_27 at hT
    refine lv_astore_n (lv' := [(3, .ref (ad 10)), (0, .ref (ad 0))]) hx hb dX0_ask_27 rfl hl (Nat.le_of_ble_eq_true rfl) rfl (fun ls hl => ?_)
    refine lv_aload_n hx hb dX0_ask_28 rfl (lv_at hl 1 rfl) ?_
    refine lv_aload_n hx hb dX0_ask_29 rfl (lv_at hl 0 rfl) ?_
    refine xgN3_6 (i := 10) hC hI (xst hI (Nat.le_of_ble_eq_true rfl) sl_10) q343 (fun _ h => h) dX0_ask_30 ?_
    refine xp0_3 (i := 0) (v := gI σ 10 6) hC hI (Nat.lt_of_lt_of_le (show _ < 1296 from (Nat.le_of_ble_eq_true rfl)) (by decide)) (xst hI (Nat.le_of_ble_eq_true rfl) sl_0) hT q474 (fun _ h => h) dX0_ask_33 (fun σ22 H locs hT hI => ?_)
    refine lv_aload_n hx hb dX0_ask_36 rfl (lv_at hl 1 rfl) ?_
    refine lv_aload_n hx hb dX0_ask_37 rfl (lv_at hl 0 rfl) ?_
    refine xgN3_7 (i := 10) hC hI (xst hI (Nat.le_of_ble_eq_true rfl) sl_10) q345 (fun _ h => h) dX0_ask_38 ?_
    refine xp0_4 (i := 0) (v := gI σ22 10 7) hC hI (Nat.lt_of_lt_of_le (show _ < 1296 from (Nat.le_of_ble_eq_true rfl)) (by decide)) (xst hI (Nat.le_of_ble_eq_true rfl) sl_0) hT q475 (fun _ h => h) dX0_ask_41 (fun σ23 H locs hT hI => ?_)
    refine lv_ldc2 hx hb hC.1.2.2.2.1 (hC.1.2.2.2.2 _ q1543) dX0_ask_44 ?_
    exact hret _ _ _ _ _ _ _ _ hT hI hB dX0_ask_47
  unfold U_X0_ask at hT
  refine lv_aload_n hx hb dX0_ask_0 rfl (lv_at hl 0 rfl) ?_
  refine x_call (x_runV (i := 0) hC hI (xst hI (Nat.le_of_ble_eq_true rfl) sl_0) rfl (um_X0_taken l D dA ad Hs hC.2.2 σ _ hT) (lw_V q554 q556 qs3 q158 q557) 0 hdV_X0_taken ⟨rfl, rfl⟩ ⟨Nat.le_of_ble_eq_true rfl, Nat.le_of_ble_eq_true rfl⟩ rfl hl.1 rfl (Nat.le_of_ble_eq_true rfl) hB dX0_ask_1) hI (fun r25 σ24 H locs hT hI => ?_)
  refine W.eq (g2 := F0 m 4 ls [.int r25]) rfl ?_
  refine lv_istore_n (lv' := [(1, .int r25), (0, .ref (ad 0))]) hx hb dX0_ask_4 rfl hl (Nat.le_of_ble_eq_true rfl) rfl (fun ls hl => ?_)
  refine lv_aload_n hx hb dX0_ask_5 rfl (lv_at hl 1 rfl) ?_
  refine lv_iconst (v := 0) hx hb dX0_ask_6 (by decide) ?_
  refine xp0_3 (i := 0) (v := 0) hC hI (Nat.lt_of_lt_of_le (show _ < 1296 from (Nat.le_of_ble_eq_true rfl)) (by decide)) (xst hI (Nat.le_of_ble_eq_true rfl) sl_0) hT q474 (fun _ h => h) dX0_ask_7 (fun σ26 H locs hT hI => ?_)
  refine lv_aload_n hx hb dX0_ask_10 rfl (lv_at hl 1 rfl) ?_
  refine lv_iconst (v := -1) hx hb dX0_ask_11 (by decide) ?_
  refine xp0_4 (i := 0) (v := -1) hC hI (Nat.lt_of_lt_of_le (show _ < 1296 from (Nat.le_of_ble_eq_true rfl)) (by decide)) (xst hI (Nat.le_of_ble_eq_true rfl) sl_0) hT q475 (fun _ h => h) dX0_ask_12 (fun σ27 H locs hT hI => ?_)
  refine lv_aload_n hx hb dX0_ask_15 rfl (lv_at hl 1 rfl) ?_
  refine xg0_5 (i := 0) hC hI (xst hI (Nat.le_of_ble_eq_true rfl) sl_0) q476 (fun _ h => h) dX0_ask_16 ?_
  refine lv_iload_n hx hb dX0_ask_19 rfl (lv_at hl 0 rfl) ?_
  obtain ⟨mc30, ms31, hB, hT⟩ := hT
  refine t_call (t_runV (i := 9) hC hI (xst hI (Nat.le_of_ble_eq_true rfl) sl_9) rfl (um_X2_question l D dA ad Hs hC.2.2 mc30 ms31 σ27 r25 _ _ hT) (lw_V q1626 q1627 q1628 q163 q1629) 1 hdV_X2_question ⟨rfl, rfl⟩ ⟨Nat.le_of_ble_eq_true rfl, Nat.le_of_ble_eq_true rfl⟩ rfl hl.1 rfl (Nat.le_of_ble_eq_true rfl) hB dX0_ask_20) hI (fun σx H1 locs1 hT h10 hI => x_catch hC hI h10 htab (by decide) (by exact w_27 (0 + mc30) (0 + ms31) σx _ _ _ hT hI hB (lv_sub hl [1] rfl))) (fun r29 σ28 H locs hT hI => ?_)
  refine W.eq (g2 := F0 m 23 ls [va_rf (rgR ad r29)]) rfl ?_
  refine x_astore_n (lv' := [(2, va_rf (rgR ad r29)), (1, .int r25), (0, .ref (ad 0))]) hx hb dX0_ask_23 rfl hl (Nat.le_of_ble_eq_true rfl) rfl (fun ls hl => ?_)
  refine lv_goto (tgt := 48) hx hb dX0_ask_24 (by decide) ?_
  refine lv_aload_n hx hb dX0_ask_48 rfl (lv_at hl 2 rfl) ?_
  refine lv_iconst (v := 0) hx hb dX0_ask_49 (by decide) ?_
  refine xp0_17 (i := 0) (v := 0) hC hI (Nat.lt_of_lt_of_le (show _ < 1296 from (Nat.le_of_ble_eq_true rfl)) (by decide)) (xst hI (Nat.le_of_ble_eq_true rfl) sl_0) hT q489 (fun _ h => h) dX0_ask_50 (fun σ32 H locs hT hI => ?_)
  obtain ⟨n53, hT⟩ := hT
  exact w_53 r29 n53 (0 + mc30) (0 + ms31) σ32 _ _ _ hT hI hB (lv_sub hl [2, 0] rfl)
