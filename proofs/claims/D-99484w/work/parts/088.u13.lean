def U_X5_init (mc ms : Nat) (σ : CS) (ob : Nat) (x1 : Nat) (K : Unit → CS → Prop) : Prop := ob < CB ∧ (gK σ ob = some kO5c ∧ (∀ σ1 : CS, σ1 = wR σ ob 12 (x1 + 1) → (¬ (8 : Int32) < 0 ∧ ((Int32.toNatClampNeg 8) ≤ 1000000 ∧ ((1 ≤ mc ∧ 0 + (Int32.toNatClampNeg 8) ≤ ms) ∧ (σ1.1 < CB ∧ (∀ σ2 : CS, σ2 = nC σ1 (.inr (0, (Int32.toNatClampNeg 8))) → (ob < CB ∧ (gK σ2 ob = some kO5c ∧ (∀ σ3 : CS, σ3 = wR σ2 ob 2 ((σ1.1) + 1) → (¬ (8 : Int32) < 0 ∧ ((Int32.toNatClampNeg 8) ≤ 1000000 ∧ ((2 ≤ mc ∧ (0 + (Int32.toNatClampNeg 8)) + (Int32.toNatClampNeg 8) ≤ ms) ∧ (σ3.1 < CB ∧ (∀ σ4 : CS, σ4 = nC σ3 (.inr (0, (Int32.toNatClampNeg 8))) → (ob < CB ∧ (gK σ4 ob = some kO5c ∧ (∀ σ5 : CS, σ5 = wR σ4 ob 3 ((σ3.1) + 1) → (¬ (8 : Int32) < 0 ∧ ((Int32.toNatClampNeg 8) ≤ 1000000 ∧ ((3 ≤ mc ∧ ((0 + (Int32.toNatClampNeg 8)) + (Int32.toNatClampNeg 8)) + (Int32.toNatClampNeg 8) ≤ ms) ∧ (σ5.1 < CB ∧ (∀ σ6 : CS, σ6 = nC σ5 (.inr (0, (Int32.toNatClampNeg 8))) → (ob < CB ∧ (gK σ6 ob = some kO5c ∧ (∀ σ7 : CS, σ7 = wR σ6 ob 4 ((σ5.1) + 1) → (¬ (8 : Int32) < 0 ∧ ((Int32.toNatClampNeg 8) ≤ 1000000 ∧ ((4 ≤ mc ∧ (((0 + (Int32.toNatClampNeg 8)) + (Int32.toNatClampNeg 8)) + (Int32.toNatClampNeg 8)) + (Int32.toNatClampNeg 8) ≤ ms) ∧ (σ7.1 < CB ∧ (∀ σ8 : CS, σ8 = nC σ7 (.inr (0, (Int32.toNatClampNeg 8))) → (ob < CB ∧ (gK σ8 ob = some kO5c ∧ (∀ σ9 : CS, σ9 = wR σ8 ob 5 ((σ7.1) + 1) → (¬ (8 : Int32) < 0 ∧ ((Int32.toNatClampNeg 8) ≤ 1000000 ∧ ((5 ≤ mc ∧ ((((0 + (Int32.toNatClampNeg 8)) + (Int32.toNatClampNeg 8)) + (Int32.toNatClampNeg 8)) + (Int32.toNatClampNeg 8)) + (Int32.toNatClampNeg 8) ≤ ms) ∧ (σ9.1 < CB ∧ (∀ σ10 : CS, σ10 = nC σ9 (.inr (2, (Int32.toNatClampNeg 8))) → (ob < CB ∧ (gK σ10 ob = some kO5c ∧ (∀ σ11 : CS, σ11 = wR σ10 ob 6 ((σ9.1) + 1) → (¬ (50 : Int32) < 0 ∧ (¬ (3 : Int32) < 0 ∧ (((Int32.toNatClampNeg 50) ≤ 1000 ∧ (Int32.toNatClampNeg 3) ≤ 1000) ∧ ((5 + (1 + (Int32.toNatClampNeg 50)) ≤ mc ∧ (((((0 + (Int32.toNatClampNeg 8)) + (Int32.toNatClampNeg 8)) + (Int32.toNatClampNeg 8)) + (Int32.toNatClampNeg 8)) + (Int32.toNatClampNeg 8)) + ((Int32.toNatClampNeg 50) + (Int32.toNatClampNeg 50) * (Int32.toNatClampNeg 3)) ≤ ms) ∧ (σ11.1 + 1 + (Int32.toNatClampNeg 50) ≤ CB ∧ (∀ σ12 : CS, σ12 = nM σ11 (Int32.toNatClampNeg 50) (Int32.toNatClampNeg 3) → (ob < CB ∧ (gK σ12 ob = some kO5c ∧ (∀ σ13 : CS, σ13 = wR σ12 ob 7 ((σ11.1) + 1) → (¬ (4 : Int32) < 0 ∧ ((Int32.toNatClampNeg 4) ≤ 1000000 ∧ (((5 + (1 + (Int32.toNatClampNeg 50))) + 1 ≤ mc ∧ ((((((0 + (Int32.toNatClampNeg 8)) + (Int32.toNatClampNeg 8)) + (Int32.toNatClampNeg 8)) + (Int32.toNatClampNeg 8)) + (Int32.toNatClampNeg 8)) + ((Int32.toNatClampNeg 50) + (Int32.toNatClampNeg 50) * (Int32.toNatClampNeg 3))) + (Int32.toNatClampNeg 4) ≤ ms) ∧ (σ13.1 < CB ∧ (∀ σ14 : CS, σ14 = nC σ13 (.inr (0, (Int32.toNatClampNeg 4))) → (ob < CB ∧ (gK σ14 ob = some kO5c ∧ (∀ σ15 : CS, σ15 = wR σ14 ob 11 ((σ13.1) + 1) → (K () σ15))))))))))))))))))))))))))))))))))))))))))))))))))))))))))))
def U_X0_init_122 (mc ms : Nat) (K : Unit → CS → Prop) (ob : Nat) : Nat → Int32 → Nat → Nat → CS → Prop
  | 0 => fun _ _ _ _ => False
  | n + 1 => fun x1 cx zx σ => ((20 ≤ x1 → (gK σ ob = some kO0c ∧ (∃ q1, (gR σ ob 9) = q1 + 1 ∧ (gK σ q1 = some kO5c ∧ (U_X5_beginsC σ q1 (fun _ σ3 => (ob < CB ∧ (gK σ3 ob = some kO0c ∧ (∀ σ5 : CS, σ5 = wL σ3 ob 16 1 → (¬ (43 : Int32) < 0 ∧ ((Int32.toNatClampNeg 43) ≤ 1000000 ∧ ((cx + 1 ≤ mc ∧ zx + (Int32.toNatClampNeg 43) ≤ ms) ∧ (σ5.1 < CB ∧ (∀ σ6 : CS, σ6 = nC σ5 (.inr (1, (Int32.toNatClampNeg 43))) → (ob < CB ∧ (gK σ6 ob = some kO0c ∧ (∀ σ7 : CS, σ7 = wR σ6 ob 18 ((σ5.1) + 1) → (K () σ7)))))))))))))))))) ∧ (¬ 20 ≤ x1 → (gK σ ob = some kO0c ∧ ((cx + 1 ≤ mc ∧ zx + 13 ≤ ms) ∧ (σ.1 < CB ∧ (∀ σ8 : CS, σ8 = nC σ kO5c → (∃ mc11 ms12 : Nat, (cx + 1 + mc11 ≤ mc ∧ zx + 13 + ms12 ≤ ms) ∧ (U_X5_init mc11 ms12 σ8 (σ.1) ob (fun _ σ9 => (∃ q13, (gR σ ob 14) = q13 + 1 ∧ (q13 < CB ∧ (gK σ9 q13 = some (.inr (6, gN σ9 q13)) ∧ (gK σ9 (σ.1) = some kO5 ∧ (vp_in x1 (gN σ9 q13) ∧ (∀ σ15 : CS, σ15 = wR σ9 q13 (Int32.toNatClampNeg x1) ((σ.1) + 1) → (U_X0_init_122 mc ms K ob n (x1 + 1) (cx + 1 + mc11) (zx + 13 + ms12) σ15))))))))))))))))
def U_X0_init (mc ms : Nat) (σ : CS) (ob : Nat) (K : Unit → CS → Prop) : Prop := (1 ≤ mc ∧ 10 ≤ ms) ∧ (σ.1 < CB ∧ (∀ σ16 : CS, σ16 = nC σ kO1 → (∃ mc19 ms20 : Nat, (1 + mc19 ≤ mc ∧ 10 + ms20 ≤ ms) ∧ (U_X1_init mc19 ms20 σ16 (σ.1) (fun _ σ17 => (ob < CB ∧ (gK σ17 ob = some kO0c ∧ (∀ σ21 : CS, σ21 = wR σ17 ob 0 ((σ.1) + 1) → (¬ (1600 : Int32) < 0 ∧ ((Int32.toNatClampNeg 1600) ≤ 1000000 ∧ ((1 + mc19 + 1 ≤ mc ∧ (10 + ms20) + (Int32.toNatClampNeg 1600) ≤ ms) ∧ (σ21.1 < CB ∧ (∀ σ22 : CS, σ22 = nC σ21 (.inr (1, (Int32.toNatClampNeg 1600))) → (ob < CB ∧ (gK σ22 ob = some kO0c ∧ (∀ σ23 : CS, σ23 = wR σ22 ob 1 ((σ21.1) + 1) → (ob < CB ∧ (gK σ23 ob = some kO0c ∧ (∀ σ24 : CS, σ24 = wI σ23 ob 4 (-1) → ((1 + mc19 + 1 + 1 ≤ mc ∧ ((10 + ms20) + (Int32.toNatClampNeg 1600)) + 8 ≤ ms) ∧ (σ24.1 < CB ∧ (∀ σ25 : CS, σ25 = nC σ24 kO2c → (∃ mc28 ms29 : Nat, (1 + mc19 + 1 + 1 + mc28 ≤ mc ∧ (((10 + ms20) + (Int32.toNatClampNeg 1600)) + 8) + ms29 ≤ ms) ∧ (U_X2_init mc28 ms29 σ25 (σ24.1) ob (fun _ σ26 => (ob < CB ∧ (gK σ26 ob = some kO0c ∧ (∀ σ30 : CS, σ30 = wR σ26 ob 5 ((σ24.1) + 1) → ((1 + mc19 + 1 + 1 + mc28 + 1 ≤ mc ∧ ((((10 + ms20) + (Int32.toNatClampNeg 1600)) + 8) + ms29) + 1 ≤ ms) ∧ (σ30.1 < CB ∧ (∀ σ31 : CS, σ31 = nC σ30 kO4c → (∃ mc34 ms35 : Nat, (1 + mc19 + 1 + 1 + mc28 + 1 + mc34 ≤ mc ∧ (((((10 + ms20) + (Int32.toNatClampNeg 1600)) + 8) + ms29) + 1) + ms35 ≤ ms) ∧ (U_X4_init mc34 ms35 σ31 (σ30.1) (fun _ σ32 => (ob < CB ∧ (gK σ32 ob = some kO0c ∧ (∀ σ36 : CS, σ36 = wR σ32 ob 6 ((σ30.1) + 1) → ((1 + mc19 + 1 + 1 + mc28 + 1 + mc34 + 1 ≤ mc ∧ ((((((10 + ms20) + (Int32.toNatClampNeg 1600)) + 8) + ms29) + 1) + ms35) + 1 ≤ ms) ∧ (σ36.1 < CB ∧ (∀ σ37 : CS, σ37 = nC σ36 kO4c → (∃ mc40 ms41 : Nat, (1 + mc19 + 1 + 1 + mc28 + 1 + mc34 + 1 + mc40 ≤ mc ∧ (((((((10 + ms20) + (Int32.toNatClampNeg 1600)) + 8) + ms29) + 1) + ms35) + 1) + ms41 ≤ ms) ∧ (U_X4_init mc40 ms41 σ37 (σ36.1) (fun _ σ38 => (ob < CB ∧ (gK σ38 ob = some kO0c ∧ (∀ σ42 : CS, σ42 = wR σ38 ob 7 ((σ36.1) + 1) → (¬ (6 : Int32) < 0 ∧ ((Int32.toNatClampNeg 6) ≤ 1000000 ∧ ((1 + mc19 + 1 + 1 + mc28 + 1 + mc34 + 1 + mc40 + 1 ≤ mc ∧ ((((((((10 + ms20) + (Int32.toNatClampNeg 1600)) + 8) + ms29) + 1) + ms35) + 1) + ms41) + (Int32.toNatClampNeg 6) ≤ ms) ∧ (σ42.1 < CB ∧ (∀ σ43 : CS, σ43 = nC σ42 (.inr (0, (Int32.toNatClampNeg 6))) → (ob < CB ∧ (gK σ43 ob = some kO0c ∧ (∀ σ44 : CS, σ44 = wR σ43 ob 8 ((σ42.1) + 1) → ((1 + mc19 + 1 + 1 + mc28 + 1 + mc34 + 1 + mc40 + 1 + 1 ≤ mc ∧ (((((((((10 + ms20) + (Int32.toNatClampNeg 1600)) + 8) + ms29) + 1) + ms35) + 1) + ms41) + (Int32.toNatClampNeg 6)) + 13 ≤ ms) ∧ (σ44.1 < CB ∧ (∀ σ45 : CS, σ45 = nC σ44 kO5c → (∃ mc48 ms49 : Nat, (1 + mc19 + 1 + 1 + mc28 + 1 + mc34 + 1 + mc40 + 1 + 1 + mc48 ≤ mc ∧ ((((((((((10 + ms20) + (Int32.toNatClampNeg 1600)) + 8) + ms29) + 1) + ms35) + 1) + ms41) + (Int32.toNatClampNeg 6)) + 13) + ms49 ≤ ms) ∧ (U_X5_init mc48 ms49 σ45 (σ44.1) ob (fun _ σ46 => (ob < CB ∧ (gK σ46 ob = some kO0c ∧ (∀ σ50 : CS, σ50 = wR σ46 ob 9 ((σ44.1) + 1) → ((1 + mc19 + 1 + 1 + mc28 + 1 + mc34 + 1 + mc40 + 1 + 1 + mc48 + 1 ≤ mc ∧ (((((((((((10 + ms20) + (Int32.toNatClampNeg 1600)) + 8) + ms29) + 1) + ms35) + 1) + ms41) + (Int32.toNatClampNeg 6)) + 13) + ms49) + 13 ≤ ms) ∧ (σ50.1 < CB ∧ (∀ σ51 : CS, σ51 = nC σ50 kO5c → (∃ mc54 ms55 : Nat, (1 + mc19 + 1 + 1 + mc28 + 1 + mc34 + 1 + mc40 + 1 + 1 + mc48 + 1 + mc54 ≤ mc ∧ ((((((((((((10 + ms20) + (Int32.toNatClampNeg 1600)) + 8) + ms29) + 1) + ms35) + 1) + ms41) + (Int32.toNatClampNeg 6)) + 13) + ms49) + 13) + ms55 ≤ ms) ∧ (U_X5_init mc54 ms55 σ51 (σ50.1) ob (fun _ σ52 => (ob < CB ∧ (gK σ52 ob = some kO0c ∧ (∀ σ56 : CS, σ56 = wR σ52 ob 10 ((σ50.1) + 1) → (¬ (6 : Int32) < 0 ∧ ((Int32.toNatClampNeg 6) ≤ 1000000 ∧ ((1 + mc19 + 1 + 1 + mc28 + 1 + mc34 + 1 + mc40 + 1 + 1 + mc48 + 1 + mc54 + 1 ≤ mc ∧ (((((((((((((10 + ms20) + (Int32.toNatClampNeg 1600)) + 8) + ms29) + 1) + ms35) + 1) + ms41) + (Int32.toNatClampNeg 6)) + 13) + ms49) + 13) + ms55) + (Int32.toNatClampNeg 6) ≤ ms) ∧ (σ56.1 < CB ∧ (∀ σ57 : CS, σ57 = nC σ56 (.inr (0, (Int32.toNatClampNeg 6))) → (ob < CB ∧ (gK σ57 ob = some kO0c ∧ (∀ σ58 : CS, σ58 = wR σ57 ob 11 ((σ56.1) + 1) → (¬ (6 : Int32) < 0 ∧ ((Int32.toNatClampNeg 6) ≤ 1000000 ∧ ((1 + mc19 + 1 + 1 + mc28 + 1 + mc34 + 1 + mc40 + 1 + 1 + mc48 + 1 + mc54 + 1 + 1 ≤ mc ∧ ((((((((((((((10 + ms20) + (Int32.toNatClampNeg 1600)) + 8) + ms29) + 1) + ms35) + 1) + ms41) + (Int32.toNatClampNeg 6)) + 13) + ms49) + 13) + ms55) + (Int32.toNatClampNeg 6)) + (Int32.toNatClampNeg 6) ≤ ms) ∧ (σ58.1 < CB ∧ (∀ σ59 : CS, σ59 = nC σ58 (.inr (0, (Int32.toNatClampNeg 6))) → (ob < CB ∧ (gK σ59 ob = some kO0c ∧ (∀ σ60 : CS, σ60 = wR σ59 ob 12 ((σ58.1) + 1) → (¬ (20 : Int32) < 0 ∧ ((Int32.toNatClampNeg 20) ≤ 1000000 ∧ ((1 + mc19 + 1 + 1 + mc28 + 1 + mc34 + 1 + mc40 + 1 + 1 + mc48 + 1 + mc54 + 1 + 1 + 1 ≤ mc ∧ (((((((((((((((10 + ms20) + (Int32.toNatClampNeg 1600)) + 8) + ms29) + 1) + ms35) + 1) + ms41) + (Int32.toNatClampNeg 6)) + 13) + ms49) + 13) + ms55) + (Int32.toNatClampNeg 6)) + (Int32.toNatClampNeg 6)) + (Int32.toNatClampNeg 20) ≤ ms) ∧ (σ60.1 < CB ∧ (∀ σ61 : CS, σ61 = nC σ60 (.inr (6, (Int32.toNatClampNeg 20))) → (ob < CB ∧ (gK σ61 ob = some kO0c ∧ (∀ σ62 : CS, σ62 = wR σ61 ob 14 ((σ60.1) + 1) → (∃ n122, U_X0_init_122 mc ms K ob n122 0 (1 + mc19 + 1 + 1 + mc28 + 1 + mc34 + 1 + mc40 + 1 + 1 + mc48 + 1 + mc54 + 1 + 1 + 1) ((((((((((((((((10 + ms20) + (Int32.toNatClampNeg 1600)) + 8) + ms29) + 1) + ms35) + 1) + ms41) + (Int32.toNatClampNeg 6)) + 13) + ms49) + 13) + ms55) + (Int32.toNatClampNeg 6)) + (Int32.toNatClampNeg 6)) + (Int32.toNatClampNeg 20)) σ62)))))))))))))))))))))))))))))))))))))))))))))))))))))))))))))))))))))))))))))))))))))))))))))))))
theorem hdS_X2_init : yX2_init.cls ≠ "java/lang/invoke/MethodHandle" ∧ yX2_init.cls ≠ "java/lang/invoke/VarHandle" ∧ (parseMethodDescriptor yX2_init.desc).map (fun d => d.parameters.length) = some 1 := by decide +kernel
theorem hdS_X4_init : yX4_init.cls ≠ "java/lang/invoke/MethodHandle" ∧ yX4_init.cls ≠ "java/lang/invoke/VarHandle" ∧ (parseMethodDescriptor yX4_init.desc).map (fun d => d.parameters.length) = some 0 := by decide +kernel
theorem hdS_X5_init : yX5_init.cls ≠ "java/lang/invoke/MethodHandle" ∧ yX5_init.cls ≠ "java/lang/invoke/VarHandle" ∧ (parseMethodDescriptor yX5_init.desc).map (fun d => d.parameters.length) = some 1 := by decide +kernel
set_option maxHeartbeats 4000000 in
set_option maxRecDepth 100000 in
theorem um_X5_init (l : Launch) (D : va_G) (dA : Nat → ClassId) (ad : Nat → Nat) (n0 : Nat) (Hs : Heap) (hA : cAd ad n0 Hs.size) (mc ms : Nat) (σ : CS) (ob : Nat) (x1 : Nat) (K : Unit → CS → Prop) (hT : U_X5_init mc ms σ ob x1 K) : Met l yX5_init (ws_ yX5_init cX5_init 2 (none)) ({ frames := 1, cells := mc, slots := ms, locals := 12 }) (va_Pc [.ref (ad ob), .ref (ad x1)] (cU D dA ad n0 Hs σ)) (xQ rvU K (cU D dA ad n0 Hs) (cA ad)) mc ms (cA ad) := by
  refine xm_v hA (by decide) rfl (Nat.le_of_ble_eq_true rfl) ?_
  intro p e s m args below meth c Q hC hN hret hI ls hl
  have hx := hC.1.1
  have hb := hC.1.2.1
  have hB : 0 ≤ mc ∧ 0 ≤ ms := ⟨Nat.zero_le _, Nat.zero_le _⟩
  have hl : lv_has ls 2 [(0, .ref (ad ob)), (1, .ref (ad x1))] := hl
  unfold U_X5_init at hT
  refine lv_aload_n hx hb dX5_init_0 rfl (lv_at hl 0 rfl) ?_
  refine lv_aload_n hx hb dX5_init_1 rfl (lv_at hl 1 rfl) ?_
  obtain ⟨hic, hT⟩ := hT
  obtain ⟨hL, hT⟩ := hT
  refine xpF5c_12 (i := ob) (v := x1 + 1) hC hI hN rfl hic hL hT q434 (fun _ h => h) dX5_init_2 (fun σ1 H locs hT hI => ?_)
  refine lv_aload_n hx hb dX5_init_5 rfl (lv_at hl 0 rfl) ?_
  refine W.objInit hx hb hC.1.2.2.2.1 (hC.1.2.2.2.2 _ q408) (hC.1.2.2.2.2 _ q205) (hC.1.2.2.2.2 _ q206) rfl (by rw [hC.1.2.2.1]; exact hl.1) rfl dX5_init_6 (Nat.le_of_ble_eq_true rfl) (Nat.le_of_ble_eq_true rfl) ?_
  refine W.eq (g2 := F0 m 9 ls []) rfl ?_
  refine lv_aload_n hx hb dX5_init_9 rfl (lv_at hl 0 rfl) ?_
  refine lv_bipush (v := 8) hx hb dX5_init_10 (by decide) ?_
  have hB := hT.2.2.1
  refine xnewa0 hC hI hT dX5_init_12 (fun σ2 H hT hI => ?_)
  obtain ⟨hic, hT⟩ := hT
  obtain ⟨hL, hT⟩ := hT
  refine xpF5c_2 (i := ob) (v := (σ1.1) + 1) hC hI hN rfl hic hL hT q415 (fun _ h => h) dX5_init_14 (fun σ3 H locs hT hI => ?_)
  refine lv_aload_n hx hb dX5_init_17 rfl (lv_at hl 0 rfl) ?_
  refine lv_bipush (v := 8) hx hb dX5_init_18 (by decide) ?_
  have hB := hT.2.2.1
  refine xnewa0 hC hI hT dX5_init_20 (fun σ4 H hT hI => ?_)
  obtain ⟨hic, hT⟩ := hT
  obtain ⟨hL, hT⟩ := hT
  refine xpF5c_3 (i := ob) (v := (σ3.1) + 1) hC hI hN rfl hic hL hT q417 (fun _ h => h) dX5_init_22 (fun σ5 H locs hT hI => ?_)
  refine lv_aload_n hx hb dX5_init_25 rfl (lv_at hl 0 rfl) ?_
  refine lv_bipush (v := 8) hx hb dX5_init_26 (by decide) ?_
  have hB := hT.2.2.1
  refine xnewa0 hC hI hT dX5_init_28 (fun σ6 H hT hI => ?_)
  obtain ⟨hic, hT⟩ := hT
  obtain ⟨hL, hT⟩ := hT
  refine xpF5c_4 (i := ob) (v := (σ5.1) + 1) hC hI hN rfl hic hL hT q419 (fun _ h => h) dX5_init_30 (fun σ7 H locs hT hI => ?_)
  refine lv_aload_n hx hb dX5_init_33 rfl (lv_at hl 0 rfl) ?_
  refine lv_bipush (v := 8) hx hb dX5_init_34 (by decide) ?_
  have hB := hT.2.2.1
  refine xnewa0 hC hI hT dX5_init_36 (fun σ8 H hT hI => ?_)
  obtain ⟨hic, hT⟩ := hT
  obtain ⟨hL, hT⟩ := hT
  refine xpF5c_5 (i := ob) (v := (σ7.1) + 1) hC hI hN rfl hic hL hT q421 (fun _ h => h) dX5_init_38 (fun σ9 H locs hT hI => ?_)
  refine lv_aload_n hx hb dX5_init_41 rfl (lv_at hl 0 rfl) ?_
  refine lv_bipush (v := 8) hx hb dX5_init_42 (by decide) ?_
  have hB := hT.2.2.1
  refine xnewa2 hC hI hT dX5_init_44 (fun σ10 H hT hI => ?_)
  obtain ⟨hic, hT⟩ := hT
  obtain ⟨hL, hT⟩ := hT
  refine xpF5c_6 (i := ob) (v := (σ9.1) + 1) hC hI hN rfl hic hL hT q423 (fun _ h => h) dX5_init_46 (fun σ11 H locs hT hI => ?_)
  refine lv_aload_n hx hb dX5_init_49 rfl (lv_at hl 0 rfl) ?_
  refine lv_bipush (v := 50) hx hb dX5_init_50 (by decide) ?_
  refine lv_iconst (v := 3) hx hb dX5_init_52 (by decide) ?_
  have hB := hT.2.2.2.1
  refine x_mana hC hI q409 hT dX5_init_53 (fun σ12 H hT hI => ?_)
  obtain ⟨hic, hT⟩ := hT
  obtain ⟨hL, hT⟩ := hT
  refine xpF5c_7 (i := ob) (v := (σ11.1) + 1) hC hI hN rfl hic hL hT q425 (fun _ h => h) dX5_init_57 (fun σ13 H locs hT hI => ?_)
  refine lv_aload_n hx hb dX5_init_60 rfl (lv_at hl 0 rfl) ?_
  refine lv_iconst (v := 4) hx hb dX5_init_61 (by decide) ?_
  have hB := hT.2.2.1
  refine xnewa0 hC hI hT dX5_init_62 (fun σ14 H hT hI => ?_)
  obtain ⟨hic, hT⟩ := hT
  obtain ⟨hL, hT⟩ := hT
  refine xpF5c_11 (i := ob) (v := (σ13.1) + 1) hC hI hN rfl hic hL hT q433 (fun _ h => h) dX5_init_64 (fun σ15 H locs hT hI => ?_)
  exact hret _ _ _ _ _ _ _ _ hT hI hB dX5_init_67
set_option maxHeartbeats 4000000 in
set_option maxRecDepth 100000 in
theorem um_X0_init (l : Launch) (D : va_G) (dA : Nat → ClassId) (ad : Nat → Nat) (n0 : Nat) (Hs : Heap) (hA : cAd ad n0 Hs.size) (mc ms : Nat) (σ : CS) (ob : Nat) (K : Unit → CS → Prop) (hT : U_X0_init mc ms σ ob K) : Met l yX0_init (ws_ yX0_init cX0_init 2 (none)) ({ frames := 6, cells := mc, slots := ms, locals := 125 }) (va_Pc [.ref (ad ob)] (cU D dA ad n0 Hs σ)) (xQ rvU K (cU D dA ad n0 Hs) (cA ad)) mc ms (cA ad) := by
  refine xm_v hA (by decide) rfl (Nat.le_of_ble_eq_true rfl) ?_
  intro p e s m args below meth c Q hC hN hret hI ls hl
  have hx := hC.1.1
  have hb := hC.1.2.1
  have hB : 0 ≤ mc ∧ 0 ≤ ms := ⟨Nat.zero_le _, Nat.zero_le _⟩
  have hl : lv_has ls 2 [(0, .ref (ad ob))] := hl
  have w_122 : ∀ (n : Nat) (x1 : Int32) (cx : Nat) (zx : Nat) (σ : CS) (H : Heap) (locs : List Loc) (ls : Array Slot), U_X0_init_122 mc ms K ob n x1 cx zx σ → xI D dA ad n0 Hs s.heap σ H locs → (cx ≤ mc ∧ zx ≤ ms) → lv_has ls 2 [(0, .ref (ad ob)), (1, .int x1)] → W p l e ({ frames := 6, cells := mc, slots := ms, locals := 125 }) s m args below meth c H locs cx zx Q (F0 m 122 ls []) := by
    intro n
    induction n with
    | zero => intro x1 cx zx σ H locs ls hT; exact hT.elim
    | succ n ih =>
      intro x1 cx zx σ H locs ls hT hI hB hl
      unfold U_X0_init_122 at hT
      refine lv_iload_n hx hb dX0_init_122 rfl (lv_at hl 1 rfl) ?_
      refine lv_bipush (v := 20) hx hb dX0_init_123 (by decide) ?_
      refine lv_icmp_ge (tgt := 148) hx hb dX0_init_125 (by decide) (fun hc => ?_) (fun hc => ?_)
      · replace hT := hT.1 hc
        refine lv_aload_n hx hb dX0_init_148 rfl (lv_at hl 0 rfl) ?_
        obtain ⟨hL, hT⟩ := hT
        refine xg0c_9 (i := ob) hC hI hL q481 (fun _ h => h) dX0_init_149 ?_
        obtain ⟨q1, hq2, hT⟩ := hT
        refine W.eq (congrArg (fun z => F0 m 152 ls [z]) (xrq hq2)) ?_
        obtain ⟨hL, hT⟩ := hT
        refine x_call (x_runV (i := q1) hC hI hL rfl (um_X5_beginsC l D dA ad n0 Hs hC.2.2 σ q1 _ hT) (lw_V q465 q466 q467 q169 q468) 0 hdV_X5_begins ⟨rfl, rfl⟩ ⟨Nat.le_of_ble_eq_true rfl, Nat.le_of_ble_eq_true rfl⟩ rfl hl.1 rfl (Nat.le_of_ble_eq_true rfl) hB dX0_init_152) hI (fun _ σ3 H locs hT hI => ?_)
        refine W.eq (g2 := F0 m 155 ls []) rfl ?_
        refine lv_aload_n hx hb dX0_init_155 rfl (lv_at hl 0 rfl) ?_
        refine lv_lconst (v := 1) hx hb dX0_init_156 (by decide) ?_
        obtain ⟨hic, hT⟩ := hT
        obtain ⟨hL, hT⟩ := hT
        refine xp0c_16 (i := ob) (v := 1) hC hI hic hL hT q488 (fun _ h => h) dX0_init_157 (fun σ5 H locs hT hI => ?_)
        refine lv_aload_n hx hb dX0_init_160 rfl (lv_at hl 0 rfl) ?_
        refine lv_bipush (v := 43) hx hb dX0_init_161 (by decide) ?_
        have hB := hT.2.2.1
        refine xnewa1 hC hI hT dX0_init_163 (fun σ6 H hT hI => ?_)
        obtain ⟨hic, hT⟩ := hT
        obtain ⟨hL, hT⟩ := hT
        refine xpF0c_18 (i := ob) (v := (σ5.1) + 1) hC hI hN rfl hic hL hT q490 (fun _ h => h) dX0_init_165 (fun σ7 H locs hT hI => ?_)
        exact hret _ _ _ _ _ _ _ _ hT hI hB dX0_init_168
      · replace hT := hT.2 hc
        refine lv_aload_n hx hb dX0_init_128 rfl (lv_at hl 0 rfl) ?_
        obtain ⟨hL, hT⟩ := hT
        refine xg0c_14 (i := ob) hC hI hL q486 (fun _ h => h) dX0_init_129 ?_
        refine lv_iload_n hx hb dX0_init_132 rfl (lv_at hl 1 rfl) ?_
        have hB := hT.1
        refine xnew5 hC hI q403 hT dX0_init_133 (fun σ8 H hT hI => ?_)
        refine lv_dup hx hb dX0_init_136 rfl ?_
        refine lv_aload_n hx hb dX0_init_137 rfl (lv_at hl 0 rfl) ?_
        obtain ⟨mc11, ms12, hB, hT⟩ := hT
        refine x_call (x_runIN (i := σ.1) hC hI (um_X5_init l D dA ad n0 Hs hC.2.2 mc11 ms12 σ8 (σ.1) ob _ hT) q407 q169 q405 q406 rfl 1 hdS_X5_init ⟨rfl, rfl⟩ ⟨Nat.le_of_ble_eq_true rfl, Nat.le_of_ble_eq_true rfl⟩ rfl hl.1 rfl (by simp only [List.map_cons, List.map_nil, List.sum_cons, List.sum_nil, va_rf_cat, vc_int, vc_long, vc_ref, vc_null]; decide) hB dX0_init_138) hI (fun _ σ9 H locs hT hI => ?_)
        refine W.eq (g2 := F0 m 141 ls [.ref (ad (σ.1)), .int x1, va_rf (rgR ad (gR σ ob 14))]) rfl ?_
        obtain ⟨q13, hq14, hT⟩ := hT
        refine W.eq (congrArg (fun z => F0 m 141 ls [.ref (ad (σ.1)), .int x1, z]) (xrq hq14)) ?_
        obtain ⟨hic, hT⟩ := hT
        obtain ⟨hL, hT⟩ := hT
        obtain ⟨hV, hT⟩ := hT
        refine xaast6 (i := q13) (q := σ.1) hC hI hic hL hV hT dX0_init_141 (fun σ15 H locs hT hI => ?_)
        refine lv_iinc (v := x1 + 1) (lv' := [(1, .int (x1 + 1)), (0, .ref (ad ob))]) hx hb dX0_init_142 hl (k := 1) rfl rfl (Nat.le_of_ble_eq_true rfl) rfl (fun ls hl => ?_)
        refine lv_goto (tgt := 122) hx hb dX0_init_145 (by decide) ?_
        exact ih (x1 + 1) (cx + 1 + mc11) (zx + 13 + ms12) σ15 _ _ _ hT hI hB (lv_sub hl [1, 0] rfl)
  unfold U_X0_init at hT
  refine lv_aload_n hx hb dX0_init_0 rfl (lv_at hl 0 rfl) ?_
  refine W.objInit hx hb hC.1.2.2.2.1 (hC.1.2.2.2.2 _ q204) (hC.1.2.2.2.2 _ q205) (hC.1.2.2.2.2 _ q206) rfl (by rw [hC.1.2.2.1]; exact hl.1) rfl dX0_init_1 (Nat.le_of_ble_eq_true rfl) (Nat.le_of_ble_eq_true rfl) ?_
  refine W.eq (g2 := F0 m 4 ls []) rfl ?_
  refine lv_aload_n hx hb dX0_init_4 rfl (lv_at hl 0 rfl) ?_
  have hB := hT.1
  refine xnew1 hC hI q207 hT dX0_init_5 (fun σ16 H hT hI => ?_)
  refine lv_dup hx hb dX0_init_8 rfl ?_
  obtain ⟨mc19, ms20, hB, hT⟩ := hT
  refine x_call (x_runIN (i := σ.1) hC hI (um_X1_init l D dA ad n0 Hs hC.2.2 mc19 ms20 σ16 (σ.1) _ hT) q211 q159 q209 q210 rfl 0 hdS_X1_init ⟨rfl, rfl⟩ ⟨Nat.le_of_ble_eq_true rfl, Nat.le_of_ble_eq_true rfl⟩ rfl hl.1 rfl (Nat.le_of_ble_eq_true rfl) hB dX0_init_9) hI (fun _ σ17 H locs hT hI => ?_)
  refine W.eq (g2 := F0 m 12 ls [.ref (ad (σ.1)), .ref (ad ob)]) rfl ?_
  obtain ⟨hic, hT⟩ := hT
  obtain ⟨hL, hT⟩ := hT
  refine xp0c_0 (i := ob) (v := (σ.1) + 1) hC hI hic hL hT q469 (fun _ h => h) dX0_init_12 (fun σ21 H locs hT hI => ?_)
  refine lv_aload_n hx hb dX0_init_15 rfl (lv_at hl 0 rfl) ?_
  refine lv_sipush (v := 1600) hx hb dX0_init_16 (by decide) ?_
  have hB := hT.2.2.1
  refine xnewa1 hC hI hT dX0_init_19 (fun σ22 H hT hI => ?_)
  obtain ⟨hic, hT⟩ := hT
  obtain ⟨hL, hT⟩ := hT
  refine xpF0c_1 (i := ob) (v := (σ21.1) + 1) hC hI hN rfl hic hL hT q472 (fun _ h => h) dX0_init_21 (fun σ23 H locs hT hI => ?_)
  refine lv_aload_n hx hb dX0_init_24 rfl (lv_at hl 0 rfl) ?_
  refine lv_iconst (v := -1) hx hb dX0_init_25 (by decide) ?_
  obtain ⟨hic, hT⟩ := hT
  obtain ⟨hL, hT⟩ := hT
  refine xp0c_4 (i := ob) (v := -1) hC hI hic hL hT q475 (fun _ h => h) dX0_init_26 (fun σ24 H locs hT hI => ?_)
  refine lv_aload_n hx hb dX0_init_29 rfl (lv_at hl 0 rfl) ?_
  have hB := hT.1
  refine xnew2 hC hI q285 hT dX0_init_30 (fun σ25 H hT hI => ?_)
  refine lv_dup hx hb dX0_init_33 rfl ?_
  refine lv_aload_n hx hb dX0_init_34 rfl (lv_at hl 0 rfl) ?_
  obtain ⟨mc28, ms29, hB, hT⟩ := hT
  refine x_call (x_runIN (i := σ24.1) hC hI (um_X2_init l D dA ad n0 Hs hC.2.2 mc28 ms29 σ25 (σ24.1) ob _ hT) q289 q163 q287 q288 rfl 1 hdS_X2_init ⟨rfl, rfl⟩ ⟨Nat.le_of_ble_eq_true rfl, Nat.le_of_ble_eq_true rfl⟩ rfl hl.1 rfl (Nat.le_of_ble_eq_true rfl) hB dX0_init_35) hI (fun _ σ26 H locs hT hI => ?_)
  refine W.eq (g2 := F0 m 38 ls [.ref (ad (σ24.1)), .ref (ad ob)]) rfl ?_
  obtain ⟨hic, hT⟩ := hT
  obtain ⟨hL, hT⟩ := hT
  refine xpF0c_5 (i := ob) (v := (σ24.1) + 1) hC hI hN rfl hic hL hT q476 (fun _ h => h) dX0_init_38 (fun σ30 H locs hT hI => ?_)
  refine lv_aload_n hx hb dX0_init_41 rfl (lv_at hl 0 rfl) ?_
  have hB := hT.1
  refine xnew4 hC hI q389 hT dX0_init_42 (fun σ31 H hT hI => ?_)
  refine lv_dup hx hb dX0_init_45 rfl ?_
  obtain ⟨mc34, ms35, hB, hT⟩ := hT
  refine x_call (x_runIN (i := σ30.1) hC hI (um_X4_init l D dA ad n0 Hs hC.2.2 mc34 ms35 σ31 (σ30.1) _ hT) q393 q168 q391 q392 rfl 0 hdS_X4_init ⟨rfl, rfl⟩ ⟨Nat.le_of_ble_eq_true rfl, Nat.le_of_ble_eq_true rfl⟩ rfl hl.1 rfl (Nat.le_of_ble_eq_true rfl) hB dX0_init_46) hI (fun _ σ32 H locs hT hI => ?_)
  refine W.eq (g2 := F0 m 49 ls [.ref (ad (σ30.1)), .ref (ad ob)]) rfl ?_
  obtain ⟨hic, hT⟩ := hT
  obtain ⟨hL, hT⟩ := hT
  refine xpF0c_6 (i := ob) (v := (σ30.1) + 1) hC hI hN rfl hic hL hT q478 (fun _ h => h) dX0_init_49 (fun σ36 H locs hT hI => ?_)
  refine lv_aload_n hx hb dX0_init_52 rfl (lv_at hl 0 rfl) ?_
  have hB := hT.1
  refine xnew4 hC hI q389 hT dX0_init_53 (fun σ37 H hT hI => ?_)
  refine lv_dup hx hb dX0_init_56 rfl ?_
  obtain ⟨mc40, ms41, hB, hT⟩ := hT
  refine x_call (x_runIN (i := σ36.1) hC hI (um_X4_init l D dA ad n0 Hs hC.2.2 mc40 ms41 σ37 (σ36.1) _ hT) q393 q168 q391 q392 rfl 0 hdS_X4_init ⟨rfl, rfl⟩ ⟨Nat.le_of_ble_eq_true rfl, Nat.le_of_ble_eq_true rfl⟩ rfl hl.1 rfl (Nat.le_of_ble_eq_true rfl) hB dX0_init_57) hI (fun _ σ38 H locs hT hI => ?_)
  refine W.eq (g2 := F0 m 60 ls [.ref (ad (σ36.1)), .ref (ad ob)]) rfl ?_
  obtain ⟨hic, hT⟩ := hT
  obtain ⟨hL, hT⟩ := hT
  refine xpF0c_7 (i := ob) (v := (σ36.1) + 1) hC hI hN rfl hic hL hT q479 (fun _ h => h) dX0_init_60 (fun σ42 H locs hT hI => ?_)
  refine lv_aload_n hx hb dX0_init_63 rfl (lv_at hl 0 rfl) ?_
  refine lv_bipush (v := 6) hx hb dX0_init_64 (by decide) ?_
  have hB := hT.2.2.1
  refine xnewa0 hC hI hT dX0_init_66 (fun σ43 H hT hI => ?_)
  obtain ⟨hic, hT⟩ := hT
  obtain ⟨hL, hT⟩ := hT
  refine xpF0c_8 (i := ob) (v := (σ42.1) + 1) hC hI hN rfl hic hL hT q480 (fun _ h => h) dX0_init_68 (fun σ44 H locs hT hI => ?_)
  refine lv_aload_n hx hb dX0_init_71 rfl (lv_at hl 0 rfl) ?_
  have hB := hT.1
  refine xnew5 hC hI q403 hT dX0_init_72 (fun σ45 H hT hI => ?_)
  refine lv_dup hx hb dX0_init_75 rfl ?_
  refine lv_aload_n hx hb dX0_init_76 rfl (lv_at hl 0 rfl) ?_
  obtain ⟨mc48, ms49, hB, hT⟩ := hT
  refine x_call (x_runIN (i := σ44.1) hC hI (um_X5_init l D dA ad n0 Hs hC.2.2 mc48 ms49 σ45 (σ44.1) ob _ hT) q407 q169 q405 q406 rfl 1 hdS_X5_init ⟨rfl, rfl⟩ ⟨Nat.le_of_ble_eq_true rfl, Nat.le_of_ble_eq_true rfl⟩ rfl hl.1 rfl (Nat.le_of_ble_eq_true rfl) hB dX0_init_77) hI (fun _ σ46 H locs hT hI => ?_)
  refine W.eq (g2 := F0 m 80 ls [.ref (ad (σ44.1)), .ref (ad ob)]) rfl ?_
  obtain ⟨hic, hT⟩ := hT
  obtain ⟨hL, hT⟩ := hT
  refine xpF0c_9 (i := ob) (v := (σ44.1) + 1) hC hI hN rfl hic hL hT q481 (fun _ h => h) dX0_init_80 (fun σ50 H locs hT hI => ?_)
  refine lv_aload_n hx hb dX0_init_83 rfl (lv_at hl 0 rfl) ?_
  have hB := hT.1
  refine xnew5 hC hI q403 hT dX0_init_84 (fun σ51 H hT hI => ?_)
  refine lv_dup hx hb dX0_init_87 rfl ?_
  refine lv_aload_n hx hb dX0_init_88 rfl (lv_at hl 0 rfl) ?_
  obtain ⟨mc54, ms55, hB, hT⟩ := hT
  refine x_call (x_runIN (i := σ50.1) hC hI (um_X5_init l D dA ad n0 Hs hC.2.2 mc54 ms55 σ51 (σ50.1) ob _ hT) q407 q169 q405 q406 rfl 1 hdS_X5_init ⟨rfl, rfl⟩ ⟨Nat.le_of_ble_eq_true rfl, Nat.le_of_ble_eq_true rfl⟩ rfl hl.1 rfl (Nat.le_of_ble_eq_true rfl) hB dX0_init_89) hI (fun _ σ52 H locs hT hI => ?_)
  refine W.eq (g2 := F0 m 92 ls [.ref (ad (σ50.1)), .ref (ad ob)]) rfl ?_
  obtain ⟨hic, hT⟩ := hT
  obtain ⟨hL, hT⟩ := hT
  refine xpF0c_10 (i := ob) (v := (σ50.1) + 1) hC hI hN rfl hic hL hT q482 (fun _ h => h) dX0_init_92 (fun σ56 H locs hT hI => ?_)
  refine lv_aload_n hx hb dX0_init_95 rfl (lv_at hl 0 rfl) ?_
  refine lv_bipush (v := 6) hx hb dX0_init_96 (by decide) ?_
  have hB := hT.2.2.1
  refine xnewa0 hC hI hT dX0_init_98 (fun σ57 H hT hI => ?_)
  obtain ⟨hic, hT⟩ := hT
  obtain ⟨hL, hT⟩ := hT
  refine xpF0c_11 (i := ob) (v := (σ56.1) + 1) hC hI hN rfl hic hL hT q483 (fun _ h => h) dX0_init_100 (fun σ58 H locs hT hI => ?_)
  refine lv_aload_n hx hb dX0_init_103 rfl (lv_at hl 0 rfl) ?_
  refine lv_bipush (v := 6) hx hb dX0_init_104 (by decide) ?_
  have hB := hT.2.2.1
  refine xnewa0 hC hI hT dX0_init_106 (fun σ59 H hT hI => ?_)
  obtain ⟨hic, hT⟩ := hT
  obtain ⟨hL, hT⟩ := hT
  refine xpF0c_12 (i := ob) (v := (σ58.1) + 1) hC hI hN rfl hic hL hT q484 (fun _ h => h) dX0_init_108 (fun σ60 H locs hT hI => ?_)
  refine lv_aload_n hx hb dX0_init_111 rfl (lv_at hl 0 rfl) ?_
  refine lv_bipush (v := 20) hx hb dX0_init_112 (by decide) ?_
  have hB := hT.2.2.1
  refine xanew6 hC hI q403 hT dX0_init_114 (fun σ61 H hT hI => ?_)
  obtain ⟨hic, hT⟩ := hT
  obtain ⟨hL, hT⟩ := hT
  refine xpF0c_14 (i := ob) (v := (σ60.1) + 1) hC hI hN rfl hic hL hT q486 (fun _ h => h) dX0_init_117 (fun σ62 H locs hT hI => ?_)
  refine lv_iconst (v := 0) hx hb dX0_init_120 (by decide) ?_
  refine lv_istore_n (lv' := [(1, .int 0), (0, .ref (ad ob))]) hx hb dX0_init_121 rfl hl (Nat.le_of_ble_eq_true rfl) rfl (fun ls hl => ?_)
  obtain ⟨n122, hT⟩ := hT
  exact w_122 n122 0 (1 + mc19 + 1 + 1 + mc28 + 1 + mc34 + 1 + mc40 + 1 + 1 + mc48 + 1 + mc54 + 1 + 1 + 1) ((((((((((((((((10 + ms20) + (Int32.toNatClampNeg 1600)) + 8) + ms29) + 1) + ms35) + 1) + ms41) + (Int32.toNatClampNeg 6)) + 13) + ms49) + 13) + ms55) + (Int32.toNatClampNeg 6)) + (Int32.toNatClampNeg 6)) + (Int32.toNatClampNeg 20)) σ62 _ _ _ hT hI hB (lv_sub hl [1, 0] rfl)
