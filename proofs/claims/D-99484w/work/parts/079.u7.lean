def U_X0_row_45 (K : Int32 → CS → Prop) (x1 : Int32) (x2 : Int32) (σ : CS) : Prop := ∀ σ1 : CS, σ1 = wI σ 0 13 100000000 → (U_X0_places (U_pl 10) σ1 x2 0 0 0 (fun _ σ2 => (((¬ x1 = (-1) → (vp_in x1 6 ∧ (K (gI σ2 133 (Int32.toNatClampNeg x1)) σ2))) ∧ (x1 = (-1) → (K (gI σ2 0 13) σ2))))))
def U_X0_row (σ : CS) (x1 : Int32) (K : Int32 → CS → Prop) : Prop := U_X5_are σ 16 1 (fun r5 σ4 => (U_J16_bitCount σ4 r5 (fun r7 σ6 => (((6 < r7 → (K (-1) σ6)) ∧ (¬ 6 < r7 → (U_X0_menders σ6 (fun r9 σ8 => (((r9 = 0 → (K (-1) σ8)) ∧ (¬ r9 = 0 → (((x1 = (-1) → (U_X0_row_45 K x1 r5 σ8)) ∧ (¬ x1 = (-1) → (U_X0_is σ8 x1 0 (r7 - 1) (fun r11 σ10 => (((¬ r11 = 0 → (U_X0_row_45 K x1 r5 σ10)) ∧ (r11 = 0 → (K (-1) σ10))))))))))))))))))))

set_option maxHeartbeats 4000000 in
set_option maxRecDepth 100000 in
theorem um_X0_row (l : Launch) (D : va_G) (dA : Nat → ClassId) (ad : Nat → Nat) (Hs : Heap) (hA : cAd ad 1296 Hs.size) (σ : CS) (x1 : Int32) (K : Int32 → CS → Prop) (hT : U_X0_row σ x1 K) : Met l yX0_row (ws_ yX0_row cX0_row 4 (some .int)) ({ frames := 915, cells := 0, slots := 0, locals := 18884 }) (va_Pc [.ref (ad 0), .int x1] (cU D dA ad 1296 Hs σ)) (xQ rvI K (cU D dA ad 1296 Hs) (cA ad)) 0 0 (cA ad) := by
  refine xm_i hA (by decide) rfl (Nat.le_of_ble_eq_true rfl) ?_
  intro p e s m args below meth c Q hC hN hret hI ls hl
  have hx := hC.1.1
  have hb := hC.1.2.1
  have hB : 0 ≤ 0 ∧ 0 ≤ 0 := ⟨Nat.zero_le _, Nat.zero_le _⟩
  have hl : lv_has ls 4 [(0, .ref (ad 0)), (1, .int x1)] := hl
  have w_45 : ∀ (x1 : Int32) (x2 : Int32) (σ : CS) (H : Heap) (locs : List Loc) (ls : Array Slot), U_X0_row_45 K x1 x2 σ → xI D dA ad 1296 Hs s.heap σ H locs → lv_has ls 4 [(0, .ref (ad 0)), (1, .int x1), (2, .int x2)] → W p l e ({ frames := 915, cells := 0, slots := 0, locals := 18884 }) s m args below meth c H locs 0 0 Q (F0 m 45 ls []) := by
    intro x1 x2 σ H locs ls hT hI hl
    unfold U_X0_row_45 at hT
    refine lv_aload_n hx hb dX0_row_45 rfl (lv_at hl 0 rfl) ?_
    refine lv_ldcw hx hb hC.1.2.2.2.1 (hC.1.2.2.2.2 _ q1548) dX0_row_46 ?_
    refine xp0_13 (i := 0) (v := 100000000) hC hI (Nat.lt_of_lt_of_le (show _ < 1296 from (Nat.le_of_ble_eq_true rfl)) (by decide)) (xst hI (Nat.le_of_ble_eq_true rfl) sl_0) hT q485 (fun _ h => h) dX0_row_49 (fun σ1 H locs hT hI => ?_)
    refine lv_aload_n hx hb dX0_row_52 rfl (lv_at hl 0 rfl) ?_
    refine lv_iload_n hx hb dX0_row_53 rfl (lv_at hl 2 rfl) ?_
    refine lv_iconst (v := 0) hx hb dX0_row_54 (by decide) ?_
    refine lv_iconst (v := 0) hx hb dX0_row_55 (by decide) ?_
    refine lv_iconst (v := 0) hx hb dX0_row_56 (by decide) ?_
    refine x_call (x_runV (i := 0) hC hI (xst hI (Nat.le_of_ble_eq_true rfl) sl_0) rfl (um_X0_places l D dA ad Hs hC.2.2 913 18832 _ (pl_P l D dA ad Hs hC.2.2 10) (by decide) (by decide) σ1 x2 0 0 0 _ hT) (lw_V q1549 q1551 qs54 q158 q1552) 4 hdV_X0_places ⟨rfl, rfl⟩ ⟨Nat.le_of_ble_eq_true rfl, Nat.le_of_ble_eq_true rfl⟩ rfl hl.1 rfl (Nat.le_of_ble_eq_true rfl) hB dX0_row_57) hI (fun _ σ2 H locs hT hI => ?_)
    refine W.eq (g2 := F0 m 60 ls []) rfl ?_
    refine lv_iload_n hx hb dX0_row_60 rfl (lv_at hl 1 rfl) ?_
    refine lv_iconst (v := -1) hx hb dX0_row_61 (by decide) ?_
    refine lv_icmp_ne (tgt := 72) hx hb dX0_row_62 (by decide) (fun hc => ?_) (fun hc => ?_)
    · replace hT := hT.1 hc
      refine lv_aload_n hx hb dX0_row_72 rfl (lv_at hl 0 rfl) ?_
      refine xg0_12 (i := 0) hC hI (xst hI (Nat.le_of_ble_eq_true rfl) sl_0) q484 (fun _ h => h) dX0_row_73 ?_
      refine lv_iload_n hx hb dX0_row_76 rfl (lv_at hl 1 rfl) ?_
      refine x_iald (i := 133) hC hI (xst hI (Nat.le_of_ble_eq_true rfl) sl_133) hT dX0_row_77 (fun hT => ?_)
      exact hret _ _ _ _ _ _ _ _ hT hI hB dX0_row_78
    · replace hT := hT.2 hc
      refine lv_aload_n hx hb dX0_row_65 rfl (lv_at hl 0 rfl) ?_
      refine xg0_13 (i := 0) hC hI (xst hI (Nat.le_of_ble_eq_true rfl) sl_0) q485 (fun _ h => h) dX0_row_66 ?_
      refine lv_goto (tgt := 78) hx hb dX0_row_69 (by decide) ?_
      exact hret _ _ _ _ _ _ _ _ hT hI hB dX0_row_78
  unfold U_X0_row at hT
  refine lv_aload_n hx hb dX0_row_0 rfl (lv_at hl 0 rfl) ?_
  refine xg0_9 (i := 0) hC hI (xst hI (Nat.le_of_ble_eq_true rfl) sl_0) q481 (fun _ h => h) dX0_row_1 ?_
  refine lv_iconst (v := 1) hx hb dX0_row_4 (by decide) ?_
  refine x_call (x_runV (i := 16) hC hI (xst hI (st_lt (Or.inl rfl : stOK 16) (d := 0) (by decide)) (sls_0 (Or.inl rfl : stOK 16))) rfl (um_X5_are l D dA ad Hs hC.2.2 σ 16 1 (Or.inl rfl : stOK 16) _ hT) (lw_V q1263 q1264 q1265 q169 q1266) 1 hdV_X5_are ⟨rfl, rfl⟩ ⟨Nat.le_of_ble_eq_true rfl, Nat.le_of_ble_eq_true rfl⟩ rfl hl.1 rfl (Nat.le_of_ble_eq_true rfl) hB dX0_row_5) hI (fun r5 σ4 H locs hT hI => ?_)
  refine W.eq (g2 := F0 m 8 ls [.int r5]) rfl ?_
  refine lv_istore_n (lv' := [(2, .int r5), (0, .ref (ad 0)), (1, .int x1)]) hx hb dX0_row_8 rfl hl (Nat.le_of_ble_eq_true rfl) rfl (fun ls hl => ?_)
  refine lv_iload_n hx hb dX0_row_9 rfl (lv_at hl 0 rfl) ?_
  refine x_call (x_runS hC hI (um_J16_bitCount l D dA ad 1296 Hs hC.2.2 σ4 r5 _ hT) (lw_S q1268 q1269 q197 q1270) 1 hdS_J16_bitCount ⟨rfl, rfl⟩ ⟨Nat.le_of_ble_eq_true rfl, Nat.le_of_ble_eq_true rfl⟩ rfl hl.1 rfl (Nat.le_of_ble_eq_true rfl) hB dX0_row_10) hI (fun r7 σ6 H locs hT hI => ?_)
  refine W.eq (g2 := F0 m 13 ls [.int r7]) rfl ?_
  refine lv_istore_n (lv' := [(3, .int r7), (2, .int r5), (0, .ref (ad 0)), (1, .int x1)]) hx hb dX0_row_13 rfl hl (Nat.le_of_ble_eq_true rfl) rfl (fun ls hl => ?_)
  refine lv_iload_n hx hb dX0_row_14 rfl (lv_at hl 0 rfl) ?_
  refine lv_bipush (v := 6) hx hb dX0_row_15 (by decide) ?_
  refine lv_icmp_gt (tgt := 43) hx hb dX0_row_17 (by decide) (fun hc => ?_) (fun hc => ?_)
  · replace hT := hT.1 hc
    refine lv_iconst (v := -1) hx hb dX0_row_43 (by decide) ?_
    exact hret _ _ _ _ _ _ _ _ hT hI hB dX0_row_44
  · replace hT := hT.2 hc
    refine lv_aload_n hx hb dX0_row_20 rfl (lv_at hl 2 rfl) ?_
    refine x_call (x_runV (i := 0) hC hI (xst hI (Nat.le_of_ble_eq_true rfl) sl_0) rfl (um_X0_menders l D dA ad Hs hC.2.2 σ6 _ hT) (lw_V q1255 q1257 qs35 q158 q1258) 0 hdV_X0_menders ⟨rfl, rfl⟩ ⟨Nat.le_of_ble_eq_true rfl, Nat.le_of_ble_eq_true rfl⟩ rfl hl.1 rfl (Nat.le_of_ble_eq_true rfl) hB dX0_row_21) hI (fun r9 σ8 H locs hT hI => ?_)
    refine W.eq (g2 := F0 m 24 ls [.int r9]) rfl ?_
    refine lv_if_eq (tgt := 43) hx hb dX0_row_24 (by decide) (fun hc => ?_) (fun hc => ?_)
    · replace hT := hT.1 hc
      refine lv_iconst (v := -1) hx hb dX0_row_43 (by decide) ?_
      exact hret _ _ _ _ _ _ _ _ hT hI hB dX0_row_44
    · replace hT := hT.2 hc
      refine lv_iload_n hx hb dX0_row_27 rfl (lv_at hl 3 rfl) ?_
      refine lv_iconst (v := -1) hx hb dX0_row_28 (by decide) ?_
      refine lv_icmp_eq (tgt := 45) hx hb dX0_row_29 (by decide) (fun hc => ?_) (fun hc => ?_)
      · replace hT := hT.1 hc
        exact w_45 x1 r5 σ8 _ _ _ hT hI (lv_sub hl [2, 3, 1] rfl)
      · replace hT := hT.2 hc
        refine lv_iload_n hx hb dX0_row_32 rfl (lv_at hl 3 rfl) ?_
        refine lv_iconst (v := 0) hx hb dX0_row_33 (by decide) ?_
        refine lv_iload_n hx hb dX0_row_34 rfl (lv_at hl 0 rfl) ?_
        refine lv_iconst (v := 1) hx hb dX0_row_35 (by decide) ?_
        refine lv_isub hx hb dX0_row_36 ?_
        refine x_call (x_runS hC hI (um_X0_is l D dA ad 1296 Hs hC.2.2 σ8 x1 0 (r7 - 1) _ hT) (lw_S q1398 q815 q158 q816) 3 hdS_X0_is ⟨rfl, rfl⟩ ⟨Nat.le_of_ble_eq_true rfl, Nat.le_of_ble_eq_true rfl⟩ rfl hl.1 rfl (Nat.le_of_ble_eq_true rfl) hB dX0_row_37) hI (fun r11 σ10 H locs hT hI => ?_)
        refine W.eq (g2 := F0 m 40 ls [.int r11]) rfl ?_
        refine lv_if_ne (tgt := 45) hx hb dX0_row_40 (by decide) (fun hc => ?_) (fun hc => ?_)
        · replace hT := hT.1 hc
          exact w_45 x1 r5 σ10 _ _ _ hT hI (lv_sub hl [2, 3, 1] rfl)
        · replace hT := hT.2 hc
          refine lv_iconst (v := -1) hx hb dX0_row_43 (by decide) ?_
          exact hret _ _ _ _ _ _ _ _ hT hI hB dX0_row_44
