set_option maxHeartbeats 4000000 in
set_option maxRecDepth 100000 in
theorem met_status (l : Launch) (D : va_G) (dA : Nat → ClassId) (ad : Nat → Nat) (hJ : rgJ twL ad) (sz : Nat) (τ : Sto) (x1 : Int32) (K : Int32 → Sto → Prop) (hT : T_status τ x1 K) : Met l yX6_status (ws_ yX6_status cX6_status 2 (some .int)) ({ frames := 2, cells := 0, slots := 0, locals := 37 }) (va_Pc [.ref (ad 0), .int x1] (rgU D vwCl dA twL ad sz τ)) (va_Qi K (rgU D vwCl dA twL ad sz) (rgAd twL ad)) 0 0 (rgAd twL ad) := by
  refine tw_meti hJ (by decide) rfl (Nat.le_of_ble_eq_true rfl) ?_
  intro p e s m args below meth c Q hC hret hI ls hl
  have hx := hC.1.1
  have hb := hC.1.2.1
  have hl : lv_has ls 2 [(0, .ref (ad 0)), (1, .int x1)] := hl
  unfold T_status at hT
  refine lv_iload_n hx hb dX6_status_0 rfl (lv_at hl 1 rfl) ?_
  refine lv_i2l hx hb dX6_status_1 rfl ?_
  refine lv_lconst (v := 0) hx hb dX6_status_2 (by decide) ?_
  refine lv_ldc2 hx hb hC.1.2.2.2.1 (hC.1.2.2.2.2 _ q2287) dX6_status_3 ?_
  refine tc_isIn hC hI hT ⟨Nat.le_of_ble_eq_true rfl, Nat.le_of_ble_eq_true rfl⟩ ⟨Nat.zero_le _, Nat.zero_le _⟩ hl.1 (Nat.le_of_ble_eq_true rfl) dX6_status_6 (fun r2 τ1 H locs hT hI => ?_)
  refine lv_if_eq (tgt := 21) hx hb dX6_status_9 (by decide) (fun hc => ?_) (fun hc => ?_)
  · have hT := hT.1 hc
    refine lv_iconst (v := -1) hx hb dX6_status_21 (by decide) ?_
    exact hret _ _ _ _ _ _ hT hI dX6_status_22
  · have hT := hT.2 hc
    refine lv_aload_n hx hb dX6_status_12 rfl (lv_at hl 0 rfl) ?_
    refine tg_9 hC hI dX6_status_13 ?_
    refine lv_iload_n hx hb dX6_status_16 rfl (lv_at hl 1 rfl) ?_
    refine tw_iald hC hI tl_10 hT dX6_status_17 (fun hT => ?_)
    refine lv_goto (tgt := 22) hx hb dX6_status_18 (by decide) ?_
    exact hret _ _ _ _ _ _ hT hI dX6_status_22
