set_option maxHeartbeats 4000000 in
set_option maxRecDepth 100000 in
theorem met_feed (l : Launch) (D : va_G) (dA : Nat → ClassId) (ad : Nat → Nat) (hJ : rgJ twL ad) (sz : Nat) (τ : Sto) (x1 : Int32) (x2 : Int32) (x3 : Int32) (x4 : Int32) (x5 : Int32) (K : Int32 → Sto → Prop) (hT : T_feed τ x1 x2 x3 x4 x5 K) : Met l yX6_feed (ws_ yX6_feed cX6_feed 8 (some .int)) ({ frames := 1, cells := 0, slots := 0, locals := 12 }) (va_Pc [.ref (ad 0), .int x1, .int x2, .int x3, .int x4, .int x5] (rgU D vwCl dA twL ad sz τ)) (va_Qi K (rgU D vwCl dA twL ad sz) (rgAd twL ad)) 0 0 (rgAd twL ad) := by
  refine tw_meti hJ (by decide) rfl (Nat.le_of_ble_eq_true rfl) ?_
  intro p e s m args below meth c Q hC hret hI ls hl
  have hx := hC.1.1
  have hb := hC.1.2.1
  have hl : lv_has ls 8 [(0, .ref (ad 0)), (1, .int x1), (2, .int x2), (3, .int x3), (4, .int x4), (5, .int x5)] := hl
  have w_81 : ∀ (x1 : Int32) (x2 : Int32) (x3 : Int32) (x4 : Int32) (x5 : Int32) (k28 : Int32 → Sto → Prop), (∀ (x6 : Int32) (τ : Sto) (H : Heap) (locs : List Loc) (ls : Array Slot), k28 x6 τ → tI D dA ad sz s.heap τ H locs → lv_has ls 8 [(0, .ref (ad 0)), (1, .int x1), (2, .int x2), (3, .int x3), (4, .int x4), (5, .int x5), (6, .int x6)] → W p l e ({ frames := 1, cells := 0, slots := 0, locals := 12 }) s m args below meth c H locs 0 0 Q (F0 m 28 ls [])) → ∀ (x6 : Int32) (s0 : Int32) (τ : Sto) (H : Heap) (locs : List Loc) (ls : Array Slot), T_feed_81 K k28 x1 x2 x3 x4 x5 x6 s0 τ → tI D dA ad sz s.heap τ H locs → lv_has ls 8 [(0, .ref (ad 0)), (1, .int x1), (2, .int x2), (3, .int x3), (4, .int x4), (5, .int x5), (6, .int x6)] → W p l e ({ frames := 1, cells := 0, slots := 0, locals := 12 }) s m args below meth c H locs 0 0 Q (F0 m 81 ls [.int s0]) := by
    intro x1 x2 x3 x4 x5 k28 hk28 x6 s0 τ H locs ls hT hI hl
    unfold T_feed_81 at hT
    refine lv_istore (lv' := [(7, .int s0), (0, .ref (ad 0)), (1, .int x1), (2, .int x2), (3, .int x3), (4, .int x4), (5, .int x5), (6, .int x6)]) hx hb dX6_feed_81 hl (Nat.le_of_ble_eq_true rfl) rfl (fun ls hl => ?_)
    refine lv_aload_n hx hb dX6_feed_83 rfl (lv_at hl 1 rfl) ?_
    refine tg_0 hC hI dX6_feed_84 ?_
    refine lv_aload_n hx hb dX6_feed_87 rfl (lv_at hl 1 rfl) ?_
    refine tg_1 hC hI dX6_feed_88 ?_
    refine lv_iload hx hb dX6_feed_91 (lv_at hl 0 rfl) ?_
    refine lv_bipush (v := 8) hx hb dX6_feed_93 (by decide) ?_
    refine lv_iconst (v := 3) hx hb dX6_feed_95 (by decide) ?_
    refine lv_iload hx hb dX6_feed_96 (lv_at hl 7 rfl) ?_
    refine lv_iconst (v := 4) hx hb dX6_feed_98 (by decide) ?_
    refine lv_irem hx hb dX6_feed_99 (by decide) ?_
    refine lv_isub hx hb dX6_feed_100 ?_
    refine lv_imul hx hb dX6_feed_101 ?_
    refine lv_ishr hx hb dX6_feed_102 ?_
    refine lv_sipush (v := 255) hx hb dX6_feed_103 (by decide) ?_
    refine lv_iand hx hb dX6_feed_106 ?_
    refine tw_iast hC hI tl_1 hT dX6_feed_107 (fun τ1 H locs hT hI => ?_)
    refine lv_aload_n hx hb dX6_feed_108 rfl (lv_at hl 1 rfl) ?_
    refine lv_dup hx hb dX6_feed_109 rfl ?_
    refine tg_1 hC hI dX6_feed_110 ?_
    refine lv_iconst (v := 1) hx hb dX6_feed_113 (by decide) ?_
    refine lv_iadd hx hb dX6_feed_114 ?_
    refine tp_1 hC hI hT dX6_feed_115 (fun τ2 H locs hT hI => ?_)
    refine lv_iinc (v := x6 + 1) (lv' := [(6, .int (x6 + 1)), (7, .int s0), (0, .ref (ad 0)), (1, .int x1), (2, .int x2), (3, .int x3), (4, .int x4), (5, .int x5)]) hx hb dX6_feed_118 hl (k := 7) rfl rfl (Nat.le_of_ble_eq_true rfl) rfl (fun ls hl => ?_)
    refine lv_goto (tgt := 28) hx hb dX6_feed_121 (by decide) ?_
    exact hk28 (x6 + 1) τ2 _ _ _ hT hI (lv_sub hl [2, 3, 4, 5, 6, 7, 0] rfl)
  have w_28 : ∀ (x1 : Int32) (x2 : Int32) (x3 : Int32) (x4 : Int32) (x5 : Int32) (n : Nat) (x6 : Int32) (τ : Sto) (H : Heap) (locs : List Loc) (ls : Array Slot), T_feed_28 K x1 x2 x3 x4 x5 n x6 τ → tI D dA ad sz s.heap τ H locs → lv_has ls 8 [(0, .ref (ad 0)), (1, .int x1), (2, .int x2), (3, .int x3), (4, .int x4), (5, .int x5), (6, .int x6)] → W p l e ({ frames := 1, cells := 0, slots := 0, locals := 12 }) s m args below meth c H locs 0 0 Q (F0 m 28 ls []) := by
    intro x1 x2 x3 x4 x5 n
    induction n with
    | zero => intro x6 τ H locs ls hT; exact hT.elim
    | succ n ih =>
      intro x6 τ H locs ls hT hI hl
      unfold T_feed_28 at hT
      refine lv_iload hx hb dX6_feed_28 (lv_at hl 6 rfl) ?_
      refine lv_bipush (v := 20) hx hb dX6_feed_30 (by decide) ?_
      refine lv_icmp_ge (tgt := 124) hx hb dX6_feed_32 (by decide) (fun hc => ?_) (fun hc => ?_)
      · have hT := hT.1 hc
        refine lv_aload_n hx hb dX6_feed_124 rfl (lv_at hl 0 rfl) ?_
        refine tg_1 hC hI dX6_feed_125 ?_
        exact hret _ _ _ _ _ _ hT hI dX6_feed_128
      · have hT := hT.2 hc
        refine lv_iload hx hb dX6_feed_35 (lv_at hl 6 rfl) ?_
        refine lv_iconst (v := 4) hx hb dX6_feed_37 (by decide) ?_
        refine lv_icmp_ge (tgt := 45) hx hb dX6_feed_38 (by decide) (fun hc => ?_) (fun hc => ?_)
        · have hT := hT.1 hc
          refine lv_iload hx hb dX6_feed_45 (lv_at hl 6 rfl) ?_
          refine lv_bipush (v := 8) hx hb dX6_feed_47 (by decide) ?_
          refine lv_icmp_ge (tgt := 56) hx hb dX6_feed_49 (by decide) (fun hc => ?_) (fun hc => ?_)
          · have hT := hT.1 hc
            refine lv_iload hx hb dX6_feed_56 (lv_at hl 6 rfl) ?_
            refine lv_bipush (v := 12) hx hb dX6_feed_58 (by decide) ?_
            refine lv_icmp_ge (tgt := 67) hx hb dX6_feed_60 (by decide) (fun hc => ?_) (fun hc => ?_)
            · have hT := hT.1 hc
              refine lv_iload hx hb dX6_feed_67 (lv_at hl 6 rfl) ?_
              refine lv_bipush (v := 16) hx hb dX6_feed_69 (by decide) ?_
              refine lv_icmp_ge (tgt := 79) hx hb dX6_feed_71 (by decide) (fun hc => ?_) (fun hc => ?_)
              · have hT := hT.1 hc
                refine lv_iload hx hb dX6_feed_79 (lv_at hl 5 rfl) ?_
                exact w_81 x1 x2 x3 x4 x5 (T_feed_28 K x1 x2 x3 x4 x5 n) (ih) x6 x5 τ _ _ _ hT hI (lv_sub hl [0, 1, 2, 3, 4, 5, 6] rfl)
              · have hT := hT.2 hc
                refine lv_iload hx hb dX6_feed_74 (lv_at hl 4 rfl) ?_
                refine lv_goto (tgt := 81) hx hb dX6_feed_76 (by decide) ?_
                exact w_81 x1 x2 x3 x4 x5 (T_feed_28 K x1 x2 x3 x4 x5 n) (ih) x6 x4 τ _ _ _ hT hI (lv_sub hl [0, 1, 2, 3, 4, 5, 6] rfl)
            · have hT := hT.2 hc
              refine lv_iload_n hx hb dX6_feed_63 rfl (lv_at hl 3 rfl) ?_
              refine lv_goto (tgt := 81) hx hb dX6_feed_64 (by decide) ?_
              exact w_81 x1 x2 x3 x4 x5 (T_feed_28 K x1 x2 x3 x4 x5 n) (ih) x6 x3 τ _ _ _ hT hI (lv_sub hl [0, 1, 2, 3, 4, 5, 6] rfl)
          · have hT := hT.2 hc
            refine lv_iload_n hx hb dX6_feed_52 rfl (lv_at hl 2 rfl) ?_
            refine lv_goto (tgt := 81) hx hb dX6_feed_53 (by decide) ?_
            exact w_81 x1 x2 x3 x4 x5 (T_feed_28 K x1 x2 x3 x4 x5 n) (ih) x6 x2 τ _ _ _ hT hI (lv_sub hl [0, 1, 2, 3, 4, 5, 6] rfl)
        · have hT := hT.2 hc
          refine lv_iload_n hx hb dX6_feed_41 rfl (lv_at hl 1 rfl) ?_
          refine lv_goto (tgt := 81) hx hb dX6_feed_42 (by decide) ?_
          exact w_81 x1 x2 x3 x4 x5 (T_feed_28 K x1 x2 x3 x4 x5 n) (ih) x6 x1 τ _ _ _ hT hI (lv_sub hl [0, 1, 2, 3, 4, 5, 6] rfl)
  unfold T_feed at hT
  refine lv_aload_n hx hb dX6_feed_0 rfl (lv_at hl 0 rfl) ?_
  refine tg_1 hC hI dX6_feed_1 ?_
  refine lv_bipush (v := 20) hx hb dX6_feed_4 (by decide) ?_
  refine lv_iadd hx hb dX6_feed_6 ?_
  refine lv_sipush (v := 1600) hx hb dX6_feed_7 (by decide) ?_
  refine lv_icmp_le (tgt := 25) hx hb dX6_feed_10 (by decide) (fun hc => ?_) (fun hc => ?_)
  · have hT := hT.1 hc
    refine lv_iconst (v := 0) hx hb dX6_feed_25 (by decide) ?_
    refine lv_istore (lv' := [(6, .int 0), (0, .ref (ad 0)), (1, .int x1), (2, .int x2), (3, .int x3), (4, .int x4), (5, .int x5)]) hx hb dX6_feed_26 hl (Nat.le_of_ble_eq_true rfl) rfl (fun ls hl => ?_)
    obtain ⟨n28, hT⟩ := hT
    exact w_28 x1 x2 x3 x4 x5 n28 0 τ _ _ _ hT hI (lv_sub hl [1, 2, 3, 4, 5, 6, 0] rfl)
  · have hT := hT.2 hc
    refine lv_aload_n hx hb dX6_feed_13 rfl (lv_at hl 0 rfl) ?_
    refine tg_9 hC hI dX6_feed_14 ?_
    refine lv_iconst (v := 0) hx hb dX6_feed_17 (by decide) ?_
    refine lv_dup2_11 hx hb dX6_feed_18 rfl rfl ?_
    refine tw_iald hC hI tl_10 hT dX6_feed_19 (fun hT => ?_)
    refine lv_iconst (v := 1) hx hb dX6_feed_20 (by decide) ?_
    refine lv_iadd hx hb dX6_feed_21 ?_
    refine tw_iast hC hI tl_10 hT dX6_feed_22 (fun τ3 H locs hT hI => ?_)
    refine lv_iconst (v := -1) hx hb dX6_feed_23 (by decide) ?_
    exact hret _ _ _ _ _ _ hT hI dX6_feed_24
set_option maxHeartbeats 4000000 in
set_option maxRecDepth 100000 in
theorem met_end (l : Launch) (D : va_G) (dA : Nat → ClassId) (ad : Nat → Nat) (hJ : rgJ twL ad) (sz : Nat) (τ : Sto) (x1 : Int32) (K : Int32 → Sto → Prop) (hT : T_end τ x1 K) : Met l yX6_end (ws_ yX6_end cX6_end 2 (some .boolean)) ({ frames := 1, cells := 0, slots := 0, locals := 12 }) (va_Pc [.ref (ad 0), .int x1] (rgU D vwCl dA twL ad sz τ)) (va_Qi K (rgU D vwCl dA twL ad sz) (rgAd twL ad)) 0 0 (rgAd twL ad) := by
  refine tw_metz hJ (by decide) rfl (Nat.le_of_ble_eq_true rfl) ?_
  intro p e s m args below meth c Q hC hret hI ls hl
  have hx := hC.1.1
  have hb := hC.1.2.1
  have hl : lv_has ls 2 [(0, .ref (ad 0)), (1, .int x1)] := hl
  have w_12 : ∀ (τ : Sto) (H : Heap) (locs : List Loc) (ls : Array Slot), T_end_12 K τ → tI D dA ad sz s.heap τ H locs → lv_has ls 2 [(0, .ref (ad 0))] → W p l e ({ frames := 1, cells := 0, slots := 0, locals := 12 }) s m args below meth c H locs 0 0 Q (F0 m 12 ls []) := by
    intro τ H locs ls hT hI hl
    unfold T_end_12 at hT
    refine lv_aload_n hx hb dX6_end_12 rfl (lv_at hl 0 rfl) ?_
    refine tg_9 hC hI dX6_end_13 ?_
    refine lv_iconst (v := 0) hx hb dX6_end_16 (by decide) ?_
    refine lv_dup2_11 hx hb dX6_end_17 rfl rfl ?_
    refine tw_iald hC hI tl_10 hT dX6_end_18 (fun hT => ?_)
    refine lv_iconst (v := 1) hx hb dX6_end_19 (by decide) ?_
    refine lv_iadd hx hb dX6_end_20 ?_
    refine tw_iast hC hI tl_10 hT dX6_end_21 (fun τ1 H locs hT hI => ?_)
    refine lv_iconst (v := 0) hx hb dX6_end_22 (by decide) ?_
    exact hret _ _ _ _ _ _ (by decide) hT hI dX6_end_23
  unfold T_end at hT
  refine lv_iload_n hx hb dX6_end_0 rfl (lv_at hl 1 rfl) ?_
  refine lv_if_lt (tgt := 12) hx hb dX6_end_1 (by decide) (fun hc => ?_) (fun hc => ?_)
  · have hT := hT.1 hc
    exact w_12 τ _ _ _ hT hI (lv_sub hl [0] rfl)
  · have hT := hT.2 hc
    refine lv_iload_n hx hb dX6_end_4 rfl (lv_at hl 1 rfl) ?_
    refine lv_aload_n hx hb dX6_end_5 rfl (lv_at hl 0 rfl) ?_
    refine tg_1 hC hI dX6_end_6 ?_
    refine lv_icmp_le (tgt := 24) hx hb dX6_end_9 (by decide) (fun hc => ?_) (fun hc => ?_)
    · have hT := hT.1 hc
      refine lv_aload_n hx hb dX6_end_24 rfl (lv_at hl 0 rfl) ?_
      refine lv_iload_n hx hb dX6_end_25 rfl (lv_at hl 1 rfl) ?_
      refine tp_1 hC hI hT dX6_end_26 (fun τ2 H locs hT hI => ?_)
      refine lv_iconst (v := 1) hx hb dX6_end_29 (by decide) ?_
      exact hret _ _ _ _ _ _ (by decide) hT hI dX6_end_30
    · have hT := hT.2 hc
      exact w_12 τ _ _ _ hT hI (lv_sub hl [0] rfl)
set_option maxHeartbeats 4000000 in
set_option maxRecDepth 100000 in
theorem met_look (l : Launch) (D : va_G) (dA : Nat → ClassId) (ad : Nat → Nat) (hJ : rgJ twL ad) (sz : Nat) (τ : Sto) (K : Int32 → Sto → Prop) (hT : T_look τ K) : Met l yX6_look (ws_ yX6_look cX6_look 1 (some .int)) ({ frames := 1, cells := 0, slots := 0, locals := 12 }) (va_Pc [.ref (ad 0)] (rgU D vwCl dA twL ad sz τ)) (va_Qi K (rgU D vwCl dA twL ad sz) (rgAd twL ad)) 0 0 (rgAd twL ad) := by
  refine tw_meti hJ (by decide) rfl (Nat.le_of_ble_eq_true rfl) ?_
  intro p e s m args below meth c Q hC hret hI ls hl
  have hx := hC.1.1
  have hb := hC.1.2.1
  have hl : lv_has ls 1 [(0, .ref (ad 0))] := hl
  have w_52 : ∀ (τ : Sto) (H : Heap) (locs : List Loc) (ls : Array Slot), T_look_52 K τ → tI D dA ad sz s.heap τ H locs → lv_has ls 1 [(0, .ref (ad 0))] → W p l e ({ frames := 1, cells := 0, slots := 0, locals := 12 }) s m args below meth c H locs 0 0 Q (F0 m 52 ls []) := by
    intro τ H locs ls hT hI hl
    unfold T_look_52 at hT
    refine lv_aload_n hx hb dX6_look_52 rfl (lv_at hl 0 rfl) ?_
    refine tg_2 hC hI dX6_look_53 ?_
    refine lv_aload_n hx hb dX6_look_56 rfl (lv_at hl 0 rfl) ?_
    refine tg_3 hC hI dX6_look_57 ?_
    refine lv_icmp_ge (tgt := 75) hx hb dX6_look_60 (by decide) (fun hc => ?_) (fun hc => ?_)
    · have hT := hT.1 hc
      refine lv_iconst (v := -1) hx hb dX6_look_75 (by decide) ?_
      exact hret _ _ _ _ _ _ hT hI dX6_look_76
    · have hT := hT.2 hc
      refine lv_aload_n hx hb dX6_look_63 rfl (lv_at hl 0 rfl) ?_
      refine tg_0 hC hI dX6_look_64 ?_
      refine lv_aload_n hx hb dX6_look_67 rfl (lv_at hl 0 rfl) ?_
      refine tg_2 hC hI dX6_look_68 ?_
      refine tw_iald hC hI tl_1 hT dX6_look_71 (fun hT => ?_)
      refine lv_goto (tgt := 76) hx hb dX6_look_72 (by decide) ?_
      exact hret _ _ _ _ _ _ hT hI dX6_look_76
  have w_0 : ∀ (n : Nat) (τ : Sto) (H : Heap) (locs : List Loc) (ls : Array Slot), T_look_0 K n τ → tI D dA ad sz s.heap τ H locs → lv_has ls 1 [(0, .ref (ad 0))] → W p l e ({ frames := 1, cells := 0, slots := 0, locals := 12 }) s m args below meth c H locs 0 0 Q (F0 m 0 ls []) := by
    intro n
    induction n with
    | zero => intro τ H locs ls hT; exact hT.elim
    | succ n ih =>
      intro τ H locs ls hT hI hl
      unfold T_look_0 at hT
      refine lv_aload_n hx hb dX6_look_0 rfl (lv_at hl 0 rfl) ?_
      refine tg_2 hC hI dX6_look_1 ?_
      refine lv_aload_n hx hb dX6_look_4 rfl (lv_at hl 0 rfl) ?_
      refine tg_3 hC hI dX6_look_5 ?_
      refine lv_icmp_ge (tgt := 52) hx hb dX6_look_8 (by decide) (fun hc => ?_) (fun hc => ?_)
      · have hT := hT.1 hc
        exact w_52 τ _ _ _ hT hI (lv_sub hl [0] rfl)
      · have hT := hT.2 hc
        refine lv_aload_n hx hb dX6_look_11 rfl (lv_at hl 0 rfl) ?_
        refine tg_0 hC hI dX6_look_12 ?_
        refine lv_aload_n hx hb dX6_look_15 rfl (lv_at hl 0 rfl) ?_
        refine tg_2 hC hI dX6_look_16 ?_
        refine tw_iald hC hI tl_1 hT dX6_look_19 (fun hT => ?_)
        refine lv_bipush (v := 10) hx hb dX6_look_20 (by decide) ?_
        refine lv_icmp_eq (tgt := 39) hx hb dX6_look_22 (by decide) (fun hc => ?_) (fun hc => ?_)
        · have hT := hT.1 hc
          refine lv_aload_n hx hb dX6_look_39 rfl (lv_at hl 0 rfl) ?_
          refine lv_dup hx hb dX6_look_40 rfl ?_
          refine tg_2 hC hI dX6_look_41 ?_
          refine lv_iconst (v := 1) hx hb dX6_look_44 (by decide) ?_
          refine lv_iadd hx hb dX6_look_45 ?_
          refine tp_2 hC hI hT dX6_look_46 (fun τ1 H locs hT hI => ?_)
          refine lv_goto (tgt := 0) hx hb dX6_look_49 (by decide) ?_
          exact ih τ1 _ _ _ hT hI (lv_sub hl [0] rfl)
        · have hT := hT.2 hc
          refine lv_aload_n hx hb dX6_look_25 rfl (lv_at hl 0 rfl) ?_
          refine tg_0 hC hI dX6_look_26 ?_
          refine lv_aload_n hx hb dX6_look_29 rfl (lv_at hl 0 rfl) ?_
          refine tg_2 hC hI dX6_look_30 ?_
          refine tw_iald hC hI tl_1 hT dX6_look_33 (fun hT => ?_)
          refine lv_bipush (v := 32) hx hb dX6_look_34 (by decide) ?_
          refine lv_icmp_ne (tgt := 52) hx hb dX6_look_36 (by decide) (fun hc => ?_) (fun hc => ?_)
          · have hT := hT.1 hc
            exact w_52 τ _ _ _ hT hI (lv_sub hl [0] rfl)
          · have hT := hT.2 hc
            refine lv_aload_n hx hb dX6_look_39 rfl (lv_at hl 0 rfl) ?_
            refine lv_dup hx hb dX6_look_40 rfl ?_
            refine tg_2 hC hI dX6_look_41 ?_
            refine lv_iconst (v := 1) hx hb dX6_look_44 (by decide) ?_
            refine lv_iadd hx hb dX6_look_45 ?_
            refine tp_2 hC hI hT dX6_look_46 (fun τ2 H locs hT hI => ?_)
            refine lv_goto (tgt := 0) hx hb dX6_look_49 (by decide) ?_
            exact ih τ2 _ _ _ hT hI (lv_sub hl [0] rfl)
  unfold T_look at hT
  obtain ⟨n0, hT⟩ := hT
  exact w_0 n0 τ _ _ _ hT hI (lv_sub hl [0] rfl)
theorem tc_look {p : Program} {l : Launch} {e : Env} {R : Room} {s : State} {m : MethodId} {args : Array Value} {below : List Frame} {meth : Method} {c : Code} {H : Heap} {locs : List Loc} {cells slots : Nat} {Q : State → Prop} {cc : ByteArray} {nL : Nat} {D : va_G} {dA : Nat → ClassId} {ad : Nat → Nat} {τ : Sto} {pc sz : Nat} {ls : Array Slot} {rest : List Value} {H0 : Heap} {K : Int32 → Sto → Prop} (hC : tC p m c cc nL s args D dA ad) (hI : tI D dA ad sz H0 τ H locs) (hT : T_look τ K) (hR : 1 + 1 ≤ R.frames ∧ 8 + (1 + 11) + 12 ≤ R.locals) (hf : cells ≤ R.cells ∧ slots ≤ R.slots) (hsz : ls.size = nL) (hroom : (rest.map fun v => v.category).sum ≤ 8) (hdg : decode cc pc = .ok (.invokevirtual 258, 3)) (kk : ∀ (r : Int32) (τ1 : Sto) (H1 : Heap) (locs1 : List Loc), K r τ1 → tI D dA ad sz H0 τ1 H1 locs1 → W p l e R s m args below meth c H1 locs1 cells slots Q (F0 m (pc + 3) ls (.int r :: rest))) : W p l e R s m args below meth c H locs cells slots Q (F0 m pc ls (.ref (ad 0) :: rest)) :=
  rg_calli (rg_runV hC.1 hC.2.1 hI.1 hI.2.1 tl_0 rfl (met_look l D dA ad hC.2.2 sz τ K hT) (lw_V q2022 q2024 qs62 q170 q2025) 0 (by decide +kernel) ⟨rfl, rfl⟩ hR rfl hsz rfl hroom hf hdg) hI.2.2 (fun r τ1 H1 l1 hk hz hP hS => kk r τ1 H1 l1 hk ⟨hP, hz, hS⟩)
set_option maxHeartbeats 4000000 in
set_option maxRecDepth 100000 in
theorem met_fail (l : Launch) (D : va_G) (dA : Nat → ClassId) (ad : Nat → Nat) (hJ : rgJ twL ad) (sz : Nat) (τ : Sto) (x1 : Int32) (x2 : Int32) (K : Sto → Prop) (hT : T_fail τ x1 x2 K) : Met l yX6_fail (ws_ yX6_fail cX6_fail 3 (none)) ({ frames := 1, cells := 0, slots := 0, locals := 12 }) (va_Pc [.ref (ad 0), .int x1, .int x2] (rgU D vwCl dA twL ad sz τ)) (va_Qv K (rgU D vwCl dA twL ad sz) (rgAd twL ad)) 0 0 (rgAd twL ad) := by
  refine tw_metv hJ (by decide) rfl (Nat.le_of_ble_eq_true rfl) ?_
  intro p e s m args below meth c Q hC hret hI ls hl
  have hx := hC.1.1
  have hb := hC.1.2.1
  have hl : lv_has ls 3 [(0, .ref (ad 0)), (1, .int x1), (2, .int x2)] := hl
  unfold T_fail at hT
  refine lv_aload_n hx hb dX6_fail_0 rfl (lv_at hl 0 rfl) ?_
  refine tg_5 hC hI dX6_fail_1 ?_
  refine lv_if_eq (tgt := 8) hx hb dX6_fail_4 (by decide) (fun hc => ?_) (fun hc => ?_)
  · have hT := hT.1 hc
    refine lv_aload_n hx hb dX6_fail_8 rfl (lv_at hl 0 rfl) ?_
    refine lv_iload_n hx hb dX6_fail_9 rfl (lv_at hl 1 rfl) ?_
    refine tp_5 hC hI hT dX6_fail_10 (fun τ1 H locs hT hI => ?_)
    refine lv_aload_n hx hb dX6_fail_13 rfl (lv_at hl 0 rfl) ?_
    refine lv_iload_n hx hb dX6_fail_14 rfl (lv_at hl 2 rfl) ?_
    refine tp_6 hC hI hT dX6_fail_15 (fun τ2 H locs hT hI => ?_)
    exact hret _ _ _ _ _ hT hI dX6_fail_18
  · have hT := hT.2 hc
    exact hret _ _ _ _ _ hT hI dX6_fail_7
theorem tc_fail {p : Program} {l : Launch} {e : Env} {R : Room} {s : State} {m : MethodId} {args : Array Value} {below : List Frame} {meth : Method} {c : Code} {H : Heap} {locs : List Loc} {cells slots : Nat} {Q : State → Prop} {cc : ByteArray} {nL : Nat} {D : va_G} {dA : Nat → ClassId} {ad : Nat → Nat} {τ : Sto} {pc sz : Nat} {ls : Array Slot} {rest : List Value} {H0 : Heap} {x1 : Int32} {x2 : Int32} {K : Sto → Prop} (hC : tC p m c cc nL s args D dA ad) (hI : tI D dA ad sz H0 τ H locs) (hT : T_fail τ x1 x2 K) (hR : 1 + 1 ≤ R.frames ∧ 8 + (3 + 11) + 12 ≤ R.locals) (hf : cells ≤ R.cells ∧ slots ≤ R.slots) (hsz : ls.size = nL) (hroom : (rest.map fun v => v.category).sum ≤ 8) (hdg : decode cc pc = .ok (.invokevirtual 276, 3)) (kk : ∀ (τ1 : Sto) (H1 : Heap) (locs1 : List Loc), K τ1 → tI D dA ad sz H0 τ1 H1 locs1 → W p l e R s m args below meth c H1 locs1 cells slots Q (F0 m (pc + 3) ls (rest))) : W p l e R s m args below meth c H locs cells slots Q (F0 m pc ls (.int x2 :: .int x1 :: .ref (ad 0) :: rest)) :=
  rg_callv (rg_runV hC.1 hC.2.1 hI.1 hI.2.1 tl_0 rfl (met_fail l D dA ad hC.2.2 sz τ x1 x2 K hT) (lw_V q2030 q2032 qs64 q170 q2033) 2 (by decide +kernel) ⟨rfl, rfl⟩ hR rfl hsz rfl hroom hf hdg) hI.2.2 (fun τ1 H1 l1 hk hz hP hS => kk τ1 H1 l1 hk ⟨hP, hz, hS⟩)
set_option maxHeartbeats 4000000 in
set_option maxRecDepth 100000 in
theorem met_isLetter (l : Launch) (D : va_G) (dA : Nat → ClassId) (ad : Nat → Nat) (hJ : rgJ twL ad) (sz : Nat) (τ : Sto) (x0 : Int32) (K : Int32 → Sto → Prop) (hT : T_isLetter τ x0 K) : Met l yX6_isLetter (ws_ yX6_isLetter cX6_isLetter 1 (some .boolean)) ({ frames := 1, cells := 0, slots := 0, locals := 12 }) (va_Pc [.int x0] (rgU D vwCl dA twL ad sz τ)) (va_Qi K (rgU D vwCl dA twL ad sz) (rgAd twL ad)) 0 0 (rgAd twL ad) := by
  refine tw_metz hJ (by decide) rfl (Nat.le_of_ble_eq_true rfl) ?_
  intro p e s m args below meth c Q hC hret hI ls hl
  have hx := hC.1.1
  have hb := hC.1.2.1
  have hl : lv_has ls 1 [(0, .int x0)] := hl
  unfold T_isLetter at hT
  refine lv_iload_n hx hb dX6_isLetter_0 rfl (lv_at hl 0 rfl) ?_
  refine lv_bipush (v := 97) hx hb dX6_isLetter_1 (by decide) ?_
  refine lv_icmp_lt (tgt := 16) hx hb dX6_isLetter_3 (by decide) (fun hc => ?_) (fun hc => ?_)
  · have hT := hT.1 hc
    refine lv_iconst (v := 0) hx hb dX6_isLetter_16 (by decide) ?_
    exact hret _ _ _ _ _ _ (by decide) hT hI dX6_isLetter_17
  · have hT := hT.2 hc
    refine lv_iload_n hx hb dX6_isLetter_6 rfl (lv_at hl 0 rfl) ?_
    refine lv_bipush (v := 122) hx hb dX6_isLetter_7 (by decide) ?_
    refine lv_icmp_gt (tgt := 16) hx hb dX6_isLetter_9 (by decide) (fun hc => ?_) (fun hc => ?_)
    · have hT := hT.1 hc
      refine lv_iconst (v := 0) hx hb dX6_isLetter_16 (by decide) ?_
      exact hret _ _ _ _ _ _ (by decide) hT hI dX6_isLetter_17
    · have hT := hT.2 hc
      refine lv_iconst (v := 1) hx hb dX6_isLetter_12 (by decide) ?_
      refine lv_goto (tgt := 17) hx hb dX6_isLetter_13 (by decide) ?_
      exact hret _ _ _ _ _ _ (by decide) hT hI dX6_isLetter_17
theorem tc_isLetter {p : Program} {l : Launch} {e : Env} {R : Room} {s : State} {m : MethodId} {args : Array Value} {below : List Frame} {meth : Method} {c : Code} {H : Heap} {locs : List Loc} {cells slots : Nat} {Q : State → Prop} {cc : ByteArray} {nL : Nat} {D : va_G} {dA : Nat → ClassId} {ad : Nat → Nat} {τ : Sto} {pc sz : Nat} {ls : Array Slot} {rest : List Value} {H0 : Heap} {x0 : Int32} {K : Int32 → Sto → Prop} (hC : tC p m c cc nL s args D dA ad) (hI : tI D dA ad sz H0 τ H locs) (hT : T_isLetter τ x0 K) (hR : 1 + 1 ≤ R.frames ∧ 8 + (1 + 11) + 12 ≤ R.locals) (hf : cells ≤ R.cells ∧ slots ≤ R.slots) (hsz : ls.size = nL) (hroom : (rest.map fun v => v.category).sum ≤ 8) (hdg : decode cc pc = .ok (.invokestatic 262, 3)) (kk : ∀ (r : Int32) (τ1 : Sto) (H1 : Heap) (locs1 : List Loc), K r τ1 → tI D dA ad sz H0 τ1 H1 locs1 → W p l e R s m args below meth c H1 locs1 cells slots Q (F0 m (pc + 3) ls (.int r :: rest))) : W p l e R s m args below meth c H locs cells slots Q (F0 m pc ls (.int x0 :: rest)) :=
  rg_calli (rg_runS hC.1 hC.2.1 hI.1 hI.2.1 (met_isLetter l D dA ad hC.2.2 sz τ x0 K hT) (lw_S q2042 q2043 q170 q2044) 1 (by decide +kernel) ⟨rfl, rfl⟩ hR rfl hsz rfl hroom hf hdg) hI.2.2 (fun r τ1 H1 l1 hk hz hP hS => kk r τ1 H1 l1 hk ⟨hP, hz, hS⟩)
set_option maxHeartbeats 4000000 in
set_option maxRecDepth 100000 in
theorem met_isHere (l : Launch) (D : va_G) (dA : Nat → ClassId) (ad : Nat → Nat) (hJ : rgJ twL ad) (sz : Nat) (τ : Sto) (x1 : Nat) (K : Int32 → Sto → Prop) (hT : T_isHere τ x1 K) : Met l yX6_isHere (ws_ yX6_isHere cX6_isHere 4 (some .boolean)) ({ frames := 2, cells := 0, slots := 0, locals := 32 }) (va_Pc [.ref (ad 0), .ref (ad x1)] (rgU D vwCl dA twL ad sz τ)) (va_Qi K (rgU D vwCl dA twL ad sz) (rgAd twL ad)) 0 0 (rgAd twL ad) := by
  refine tw_metz hJ (by decide) rfl (Nat.le_of_ble_eq_true rfl) ?_
  intro p e s m args below meth c Q hC hret hI ls hl
  have hx := hC.1.1
  have hb := hC.1.2.1
  have hl : lv_has ls 4 [(0, .ref (ad 0)), (1, .ref (ad x1))] := hl
  have w_76 : ∀ (x1 : Nat) (n : Nat) (x3 : Int32) (τ : Sto) (H : Heap) (locs : List Loc) (ls : Array Slot), T_isHere_76 K x1 n x3 τ → tI D dA ad sz s.heap τ H locs → lv_has ls 4 [(0, .ref (ad 0)), (1, .ref (ad x1)), (3, .int x3)] → W p l e ({ frames := 2, cells := 0, slots := 0, locals := 32 }) s m args below meth c H locs 0 0 Q (F0 m 76 ls []) := by
    intro x1 n
    induction n with
    | zero => intro x3 τ H locs ls hT; exact hT.elim
    | succ n ih =>
      intro x3 τ H locs ls hT hI hl
      unfold T_isHere_76 at hT
      refine lv_iload_n hx hb dX6_isHere_76 rfl (lv_at hl 2 rfl) ?_
      refine lv_aload_n hx hb dX6_isHere_77 rfl (lv_at hl 1 rfl) ?_
      refine tw_alen hC hI hT.1 (by decide) dX6_isHere_78 ?_
      have hT := hT.2
      refine lv_icmp_ge (tgt := 107) hx hb dX6_isHere_79 (by decide) (fun hc => ?_) (fun hc => ?_)
      · have hT := hT.1 hc
        refine lv_iconst (v := 1) hx hb dX6_isHere_107 (by decide) ?_
        exact hret _ _ _ _ _ _ (by decide) hT hI dX6_isHere_108
      · have hT := hT.2 hc
        refine lv_aload_n hx hb dX6_isHere_82 rfl (lv_at hl 0 rfl) ?_
        refine tg_0 hC hI dX6_isHere_83 ?_
        refine lv_aload_n hx hb dX6_isHere_86 rfl (lv_at hl 0 rfl) ?_
        refine tg_2 hC hI dX6_isHere_87 ?_
        refine lv_iload_n hx hb dX6_isHere_90 rfl (lv_at hl 2 rfl) ?_
        refine lv_iadd hx hb dX6_isHere_91 ?_
        refine tw_iald hC hI tl_1 hT dX6_isHere_92 (fun hT => ?_)
        refine lv_aload_n hx hb dX6_isHere_93 rfl (lv_at hl 1 rfl) ?_
        refine lv_iload_n hx hb dX6_isHere_94 rfl (lv_at hl 2 rfl) ?_
        refine tw_cald hC hI hT.1 hT.2 dX6_isHere_95 (fun hT => ?_)
        refine lv_icmp_eq (tgt := 101) hx hb dX6_isHere_96 (by decide) (fun hc => ?_) (fun hc => ?_)
        · have hT := hT.1 hc
          refine lv_iinc (v := x3 + 1) (lv' := [(3, .int (x3 + 1)), (0, .ref (ad 0)), (1, .ref (ad x1))]) hx hb dX6_isHere_101 hl (k := 2) rfl rfl (Nat.le_of_ble_eq_true rfl) rfl (fun ls hl => ?_)
          refine lv_goto (tgt := 76) hx hb dX6_isHere_104 (by decide) ?_
          exact ih (x3 + 1) τ _ _ _ hT hI (lv_sub hl [1, 2, 0] rfl)
        · have hT := hT.2 hc
          refine lv_iconst (v := 0) hx hb dX6_isHere_99 (by decide) ?_
          exact hret _ _ _ _ _ _ (by decide) hT hI dX6_isHere_100
  have w_61 : ∀ (x1 : Nat) (x2 : Int32) (τ : Sto) (H : Heap) (locs : List Loc) (ls : Array Slot), T_isHere_61 K x1 x2 τ → tI D dA ad sz s.heap τ H locs → lv_has ls 4 [(0, .ref (ad 0)), (1, .ref (ad x1)), (2, .int x2)] → W p l e ({ frames := 2, cells := 0, slots := 0, locals := 32 }) s m args below meth c H locs 0 0 Q (F0 m 61 ls []) := by
    intro x1 x2 τ H locs ls hT hI hl
    unfold T_isHere_61 at hT
    refine lv_iload_n hx hb dX6_isHere_61 rfl (lv_at hl 2 rfl) ?_
    refine lv_aload_n hx hb dX6_isHere_62 rfl (lv_at hl 0 rfl) ?_
    refine tg_2 hC hI dX6_isHere_63 ?_
    refine lv_isub hx hb dX6_isHere_66 ?_
    refine lv_aload_n hx hb dX6_isHere_67 rfl (lv_at hl 1 rfl) ?_
    refine tw_alen hC hI hT.1 (by decide) dX6_isHere_68 ?_
    have hT := hT.2
    refine lv_icmp_eq (tgt := 74) hx hb dX6_isHere_69 (by decide) (fun hc => ?_) (fun hc => ?_)
    · have hT := hT.1 hc
      refine lv_iconst (v := 0) hx hb dX6_isHere_74 (by decide) ?_
      refine lv_istore_n (lv' := [(3, .int 0), (0, .ref (ad 0)), (1, .ref (ad x1)), (2, .int x2)]) hx hb dX6_isHere_75 rfl hl (Nat.le_of_ble_eq_true rfl) rfl (fun ls hl => ?_)
      obtain ⟨n76, hT⟩ := hT
      exact w_76 x1 n76 0 τ _ _ _ hT hI (lv_sub hl [1, 2, 0] rfl)
    · have hT := hT.2 hc
      refine lv_iconst (v := 0) hx hb dX6_isHere_72 (by decide) ?_
      exact hret _ _ _ _ _ _ (by decide) hT hI dX6_isHere_73
  have w_35 : ∀ (x1 : Nat) (n : Nat) (x2 : Int32) (τ : Sto) (H : Heap) (locs : List Loc) (ls : Array Slot), T_isHere_35 K x1 n x2 τ → tI D dA ad sz s.heap τ H locs → lv_has ls 4 [(0, .ref (ad 0)), (1, .ref (ad x1)), (2, .int x2)] → W p l e ({ frames := 2, cells := 0, slots := 0, locals := 32 }) s m args below meth c H locs 0 0 Q (F0 m 35 ls []) := by
    intro x1 n
    induction n with
    | zero => intro x2 τ H locs ls hT; exact hT.elim
    | succ n ih =>
      intro x2 τ H locs ls hT hI hl
      unfold T_isHere_35 at hT
      refine lv_iload_n hx hb dX6_isHere_35 rfl (lv_at hl 2 rfl) ?_
      refine lv_aload_n hx hb dX6_isHere_36 rfl (lv_at hl 0 rfl) ?_
      refine tg_3 hC hI dX6_isHere_37 ?_
      refine lv_icmp_ge (tgt := 61) hx hb dX6_isHere_40 (by decide) (fun hc => ?_) (fun hc => ?_)
      · have hT := hT.1 hc
        exact w_61 x1 x2 τ _ _ _ hT hI (lv_sub hl [0, 1, 2] rfl)
      · have hT := hT.2 hc
        refine lv_aload_n hx hb dX6_isHere_43 rfl (lv_at hl 0 rfl) ?_
        refine tg_0 hC hI dX6_isHere_44 ?_
        refine lv_iload_n hx hb dX6_isHere_47 rfl (lv_at hl 2 rfl) ?_
        refine tw_iald hC hI tl_1 hT dX6_isHere_48 (fun hT => ?_)
        refine tc_isLetter hC hI hT ⟨Nat.le_of_ble_eq_true rfl, Nat.le_of_ble_eq_true rfl⟩ ⟨Nat.zero_le _, Nat.zero_le _⟩ hl.1 (Nat.le_of_ble_eq_true rfl) dX6_isHere_49 (fun r2 τ1 H locs hT hI => ?_)
        refine lv_if_eq (tgt := 61) hx hb dX6_isHere_52 (by decide) (fun hc => ?_) (fun hc => ?_)
        · have hT := hT.1 hc
          exact w_61 x1 x2 τ1 _ _ _ hT hI (lv_sub hl [0, 1, 2] rfl)
        · have hT := hT.2 hc
          refine lv_iinc (v := x2 + 1) (lv' := [(2, .int (x2 + 1)), (0, .ref (ad 0)), (1, .ref (ad x1))]) hx hb dX6_isHere_55 hl (k := 2) rfl rfl (Nat.le_of_ble_eq_true rfl) rfl (fun ls hl => ?_)
          refine lv_goto (tgt := 35) hx hb dX6_isHere_58 (by decide) ?_
          exact ih (x2 + 1) τ1 _ _ _ hT hI (lv_sub hl [1, 2, 0] rfl)
  unfold T_isHere at hT
  refine lv_aload_n hx hb dX6_isHere_0 rfl (lv_at hl 0 rfl) ?_
  refine tg_5 hC hI dX6_isHere_1 ?_
  refine lv_if_ne (tgt := 28) hx hb dX6_isHere_4 (by decide) (fun hc => ?_) (fun hc => ?_)
  · have hT := hT.1 hc
    refine lv_iconst (v := 0) hx hb dX6_isHere_28 (by decide) ?_
    exact hret _ _ _ _ _ _ (by decide) hT hI dX6_isHere_29
  · have hT := hT.2 hc
    refine lv_aload_n hx hb dX6_isHere_7 rfl (lv_at hl 0 rfl) ?_
    refine tc_look hC hI hT ⟨Nat.le_of_ble_eq_true rfl, Nat.le_of_ble_eq_true rfl⟩ ⟨Nat.zero_le _, Nat.zero_le _⟩ hl.1 (Nat.le_of_ble_eq_true rfl) dX6_isHere_8 (fun r4 τ3 H locs hT hI => ?_)
    refine tc_isLetter hC hI hT ⟨Nat.le_of_ble_eq_true rfl, Nat.le_of_ble_eq_true rfl⟩ ⟨Nat.zero_le _, Nat.zero_le _⟩ hl.1 (Nat.le_of_ble_eq_true rfl) dX6_isHere_11 (fun r6 τ5 H locs hT hI => ?_)
    refine lv_if_eq (tgt := 28) hx hb dX6_isHere_14 (by decide) (fun hc => ?_) (fun hc => ?_)
    · have hT := hT.1 hc
      refine lv_iconst (v := 0) hx hb dX6_isHere_28 (by decide) ?_
      exact hret _ _ _ _ _ _ (by decide) hT hI dX6_isHere_29
    · have hT := hT.2 hc
      refine lv_aload_n hx hb dX6_isHere_17 rfl (lv_at hl 0 rfl) ?_
      refine tg_2 hC hI dX6_isHere_18 ?_
      refine lv_aload_n hx hb dX6_isHere_21 rfl (lv_at hl 0 rfl) ?_
      refine tg_4 hC hI dX6_isHere_22 ?_
      refine lv_icmp_ne (tgt := 30) hx hb dX6_isHere_25 (by decide) (fun hc => ?_) (fun hc => ?_)
      · have hT := hT.1 hc
        refine lv_aload_n hx hb dX6_isHere_30 rfl (lv_at hl 0 rfl) ?_
        refine tg_2 hC hI dX6_isHere_31 ?_
        refine lv_istore_n (lv' := [(2, .int (τ5.1 0 2)), (0, .ref (ad 0)), (1, .ref (ad x1))]) hx hb dX6_isHere_34 rfl hl (Nat.le_of_ble_eq_true rfl) rfl (fun ls hl => ?_)
        obtain ⟨n35, hT⟩ := hT
        exact w_35 x1 n35 (τ5.1 0 2) τ5 _ _ _ hT hI (lv_sub hl [1, 2, 0] rfl)
      · have hT := hT.2 hc
        refine lv_iconst (v := 0) hx hb dX6_isHere_28 (by decide) ?_
        exact hret _ _ _ _ _ _ (by decide) hT hI dX6_isHere_29
theorem tc_isHere {p : Program} {l : Launch} {e : Env} {R : Room} {s : State} {m : MethodId} {args : Array Value} {below : List Frame} {meth : Method} {c : Code} {H : Heap} {locs : List Loc} {cells slots : Nat} {Q : State → Prop} {cc : ByteArray} {nL : Nat} {D : va_G} {dA : Nat → ClassId} {ad : Nat → Nat} {τ : Sto} {pc sz : Nat} {ls : Array Slot} {rest : List Value} {H0 : Heap} {x1 : Nat} {K : Int32 → Sto → Prop} (hC : tC p m c cc nL s args D dA ad) (hI : tI D dA ad sz H0 τ H locs) (hT : T_isHere τ x1 K) (hR : 2 + 1 ≤ R.frames ∧ 8 + (4 + 11) + 32 ≤ R.locals) (hf : cells ≤ R.cells ∧ slots ≤ R.slots) (hsz : ls.size = nL) (hroom : (rest.map fun v => v.category).sum ≤ 8) (hdg : decode cc pc = .ok (.invokevirtual 269, 3)) (kk : ∀ (r : Int32) (τ1 : Sto) (H1 : Heap) (locs1 : List Loc), K r τ1 → tI D dA ad sz H0 τ1 H1 locs1 → W p l e R s m args below meth c H1 locs1 cells slots Q (F0 m (pc + 3) ls (.int r :: rest))) : W p l e R s m args below meth c H locs cells slots Q (F0 m pc ls (.ref (ad x1) :: .ref (ad 0) :: rest)) :=
  rg_calli (rg_runV hC.1 hC.2.1 hI.1 hI.2.1 tl_0 rfl (met_isHere l D dA ad hC.2.2 sz τ x1 K hT) (lw_V q2038 q2040 qs66 q170 q2041) 1 (by decide +kernel) ⟨rfl, rfl⟩ hR rfl hsz rfl hroom hf hdg) hI.2.2 (fun r τ1 H1 l1 hk hz hP hS => kk r τ1 H1 l1 hk ⟨hP, hz, hS⟩)
set_option maxHeartbeats 4000000 in
set_option maxRecDepth 100000 in
theorem met_eats (l : Launch) (D : va_G) (dA : Nat → ClassId) (ad : Nat → Nat) (hJ : rgJ twL ad) (sz : Nat) (τ : Sto) (x1 : Nat) (K : Int32 → Sto → Prop) (hT : T_eats τ x1 K) : Met l yX6_eats (ws_ yX6_eats cX6_eats 2 (some .boolean)) ({ frames := 3, cells := 0, slots := 0, locals := 55 }) (va_Pc [.ref (ad 0), .ref (ad x1)] (rgU D vwCl dA twL ad sz τ)) (va_Qi K (rgU D vwCl dA twL ad sz) (rgAd twL ad)) 0 0 (rgAd twL ad) := by
  refine tw_metz hJ (by decide) rfl (Nat.le_of_ble_eq_true rfl) ?_
  intro p e s m args below meth c Q hC hret hI ls hl
  have hx := hC.1.1
  have hb := hC.1.2.1
  have hl : lv_has ls 2 [(0, .ref (ad 0)), (1, .ref (ad x1))] := hl
  unfold T_eats at hT
  refine lv_aload_n hx hb dX6_eats_0 rfl (lv_at hl 0 rfl) ?_
  refine lv_aload_n hx hb dX6_eats_1 rfl (lv_at hl 1 rfl) ?_
  refine tc_isHere hC hI hT ⟨Nat.le_of_ble_eq_true rfl, Nat.le_of_ble_eq_true rfl⟩ ⟨Nat.zero_le _, Nat.zero_le _⟩ hl.1 (Nat.le_of_ble_eq_true rfl) dX6_eats_2 (fun r2 τ1 H locs hT hI => ?_)
  refine lv_if_ne (tgt := 10) hx hb dX6_eats_5 (by decide) (fun hc => ?_) (fun hc => ?_)
  · have hT := hT.1 hc
    refine lv_aload_n hx hb dX6_eats_10 rfl (lv_at hl 0 rfl) ?_
    refine lv_dup hx hb dX6_eats_11 rfl ?_
    refine tg_2 hC hI dX6_eats_12 ?_
    refine lv_aload_n hx hb dX6_eats_15 rfl (lv_at hl 1 rfl) ?_
    refine tw_alen hC hI hT.1 (by decide) dX6_eats_16 ?_
    have hT := hT.2
    refine lv_iadd hx hb dX6_eats_17 ?_
    refine tp_2 hC hI hT dX6_eats_18 (fun τ3 H locs hT hI => ?_)
    refine lv_aload_n hx hb dX6_eats_21 rfl (lv_at hl 0 rfl) ?_
    refine lv_aload_n hx hb dX6_eats_22 rfl (lv_at hl 0 rfl) ?_
    refine tg_2 hC hI dX6_eats_23 ?_
    refine tp_4 hC hI hT dX6_eats_26 (fun τ4 H locs hT hI => ?_)
    refine lv_iconst (v := 1) hx hb dX6_eats_29 (by decide) ?_
    exact hret _ _ _ _ _ _ (by decide) hT hI dX6_eats_30
  · have hT := hT.2 hc
    refine lv_iconst (v := 0) hx hb dX6_eats_8 (by decide) ?_
    exact hret _ _ _ _ _ _ (by decide) hT hI dX6_eats_9
theorem tc_eats {p : Program} {l : Launch} {e : Env} {R : Room} {s : State} {m : MethodId} {args : Array Value} {below : List Frame} {meth : Method} {c : Code} {H : Heap} {locs : List Loc} {cells slots : Nat} {Q : State → Prop} {cc : ByteArray} {nL : Nat} {D : va_G} {dA : Nat → ClassId} {ad : Nat → Nat} {τ : Sto} {pc sz : Nat} {ls : Array Slot} {rest : List Value} {H0 : Heap} {x1 : Nat} {K : Int32 → Sto → Prop} (hC : tC p m c cc nL s args D dA ad) (hI : tI D dA ad sz H0 τ H locs) (hT : T_eats τ x1 K) (hR : 3 + 1 ≤ R.frames ∧ 8 + (2 + 11) + 55 ≤ R.locals) (hf : cells ≤ R.cells ∧ slots ≤ R.slots) (hsz : ls.size = nL) (hroom : (rest.map fun v => v.category).sum ≤ 8) (hdg : decode cc pc = .ok (.invokevirtual 273, 3)) (kk : ∀ (r : Int32) (τ1 : Sto) (H1 : Heap) (locs1 : List Loc), K r τ1 → tI D dA ad sz H0 τ1 H1 locs1 → W p l e R s m args below meth c H1 locs1 cells slots Q (F0 m (pc + 3) ls (.int r :: rest))) : W p l e R s m args below meth c H locs cells slots Q (F0 m pc ls (.ref (ad x1) :: .ref (ad 0) :: rest)) :=
  rg_calli (rg_runV hC.1 hC.2.1 hI.1 hI.2.1 tl_0 rfl (met_eats l D dA ad hC.2.2 sz τ x1 K hT) (lw_V q2034 q2036 qs65 q170 q2037) 1 (by decide +kernel) ⟨rfl, rfl⟩ hR rfl hsz rfl hroom hf hdg) hI.2.2 (fun r τ1 H1 l1 hk hz hP hS => kk r τ1 H1 l1 hk ⟨hP, hz, hS⟩)
set_option maxHeartbeats 4000000 in
set_option maxRecDepth 100000 in
theorem met_isFull (l : Launch) (D : va_G) (dA : Nat → ClassId) (ad : Nat → Nat) (hJ : rgJ twL ad) (sz : Nat) (τ : Sto) (x1 : Int32) (x2 : Int32) (x3 : Int32) (K : Int32 → Sto → Prop) (hT : T_isFull τ x1 x2 x3 K) : Met l yX6_isFull (ws_ yX6_isFull cX6_isFull 4 (some .boolean)) ({ frames := 2, cells := 0, slots := 0, locals := 34 }) (va_Pc [.ref (ad 0), .int x1, .int x2, .int x3] (rgU D vwCl dA twL ad sz τ)) (va_Qi K (rgU D vwCl dA twL ad sz) (rgAd twL ad)) 0 0 (rgAd twL ad) := by
  refine tw_metz hJ (by decide) rfl (Nat.le_of_ble_eq_true rfl) ?_
  intro p e s m args below meth c Q hC hret hI ls hl
  have hx := hC.1.1
  have hb := hC.1.2.1
  have hl : lv_has ls 4 [(0, .ref (ad 0)), (1, .int x1), (2, .int x2), (3, .int x3)] := hl
  unfold T_isFull at hT
  refine lv_aload_n hx hb dX6_isFull_0 rfl (lv_at hl 0 rfl) ?_
  refine tg_5 hC hI dX6_isFull_1 ?_
  refine lv_if_ne (tgt := 23) hx hb dX6_isFull_4 (by decide) (fun hc => ?_) (fun hc => ?_)
  · have hT := hT.1 hc
    refine lv_aload_n hx hb dX6_isFull_23 rfl (lv_at hl 0 rfl) ?_
    refine tg_5 hC hI dX6_isFull_24 ?_
    refine lv_if_eq (tgt := 34) hx hb dX6_isFull_27 (by decide) (fun hc => ?_) (fun hc => ?_)
    · have hT := hT.1 hc
      refine lv_iconst (v := 0) hx hb dX6_isFull_34 (by decide) ?_
      exact hret _ _ _ _ _ _ (by decide) hT hI dX6_isFull_35
    · have hT := hT.2 hc
      refine lv_iconst (v := 1) hx hb dX6_isFull_30 (by decide) ?_
      refine lv_goto (tgt := 35) hx hb dX6_isFull_31 (by decide) ?_
      exact hret _ _ _ _ _ _ (by decide) hT hI dX6_isFull_35
  · have hT := hT.2 hc
    refine lv_aload_n hx hb dX6_isFull_7 rfl (lv_at hl 0 rfl) ?_
    refine tg_39 hC hI dX6_isFull_8 ?_
    refine lv_iload_n hx hb dX6_isFull_11 rfl (lv_at hl 1 rfl) ?_
    refine tw_iald hC hI tl_40 hT dX6_isFull_12 (fun hT => ?_)
    refine lv_iload_n hx hb dX6_isFull_13 rfl (lv_at hl 2 rfl) ?_
    refine lv_icmp_ne (tgt := 23) hx hb dX6_isFull_14 (by decide) (fun hc => ?_) (fun hc => ?_)
    · have hT := hT.1 hc
      refine lv_aload_n hx hb dX6_isFull_23 rfl (lv_at hl 0 rfl) ?_
      refine tg_5 hC hI dX6_isFull_24 ?_
      refine lv_if_eq (tgt := 34) hx hb dX6_isFull_27 (by decide) (fun hc => ?_) (fun hc => ?_)
      · have hT := hT.1 hc
        refine lv_iconst (v := 0) hx hb dX6_isFull_34 (by decide) ?_
        exact hret _ _ _ _ _ _ (by decide) hT hI dX6_isFull_35
      · have hT := hT.2 hc
        refine lv_iconst (v := 1) hx hb dX6_isFull_30 (by decide) ?_
        refine lv_goto (tgt := 35) hx hb dX6_isFull_31 (by decide) ?_
        exact hret _ _ _ _ _ _ (by decide) hT hI dX6_isFull_35
    · have hT := hT.2 hc
      refine lv_aload_n hx hb dX6_isFull_17 rfl (lv_at hl 0 rfl) ?_
      refine lv_iconst (v := 5) hx hb dX6_isFull_18 (by decide) ?_
      refine lv_iload_n hx hb dX6_isFull_19 rfl (lv_at hl 3 rfl) ?_
      refine tc_fail hC hI hT ⟨Nat.le_of_ble_eq_true rfl, Nat.le_of_ble_eq_true rfl⟩ ⟨Nat.zero_le _, Nat.zero_le _⟩ hl.1 (Nat.le_of_ble_eq_true rfl) dX6_isFull_20 (fun τ1 H locs hT hI => ?_)
      refine lv_aload_n hx hb dX6_isFull_23 rfl (lv_at hl 0 rfl) ?_
      refine tg_5 hC hI dX6_isFull_24 ?_
      refine lv_if_eq (tgt := 34) hx hb dX6_isFull_27 (by decide) (fun hc => ?_) (fun hc => ?_)
      · have hT := hT.1 hc
        refine lv_iconst (v := 0) hx hb dX6_isFull_34 (by decide) ?_
        exact hret _ _ _ _ _ _ (by decide) hT hI dX6_isFull_35
      · have hT := hT.2 hc
        refine lv_iconst (v := 1) hx hb dX6_isFull_30 (by decide) ?_
        refine lv_goto (tgt := 35) hx hb dX6_isFull_31 (by decide) ?_
        exact hret _ _ _ _ _ _ (by decide) hT hI dX6_isFull_35
theorem tc_isFull {p : Program} {l : Launch} {e : Env} {R : Room} {s : State} {m : MethodId} {args : Array Value} {below : List Frame} {meth : Method} {c : Code} {H : Heap} {locs : List Loc} {cells slots : Nat} {Q : State → Prop} {cc : ByteArray} {nL : Nat} {D : va_G} {dA : Nat → ClassId} {ad : Nat → Nat} {τ : Sto} {pc sz : Nat} {ls : Array Slot} {rest : List Value} {H0 : Heap} {x1 : Int32} {x2 : Int32} {x3 : Int32} {K : Int32 → Sto → Prop} (hC : tC p m c cc nL s args D dA ad) (hI : tI D dA ad sz H0 τ H locs) (hT : T_isFull τ x1 x2 x3 K) (hR : 2 + 1 ≤ R.frames ∧ 8 + (4 + 11) + 34 ≤ R.locals) (hf : cells ≤ R.cells ∧ slots ≤ R.slots) (hsz : ls.size = nL) (hroom : (rest.map fun v => v.category).sum ≤ 8) (hdg : decode cc pc = .ok (.invokevirtual 308, 3)) (kk : ∀ (r : Int32) (τ1 : Sto) (H1 : Heap) (locs1 : List Loc), K r τ1 → tI D dA ad sz H0 τ1 H1 locs1 → W p l e R s m args below meth c H1 locs1 cells slots Q (F0 m (pc + 3) ls (.int r :: rest))) : W p l e R s m args below meth c H locs cells slots Q (F0 m pc ls (.int x3 :: .int x2 :: .int x1 :: .ref (ad 0) :: rest)) :=
  rg_calli (rg_runV hC.1 hC.2.1 hI.1 hI.2.1 tl_0 rfl (met_isFull l D dA ad hC.2.2 sz τ x1 x2 x3 K hT) (lw_V q2049 q2051 qs68 q170 q2052) 3 (by decide +kernel) ⟨rfl, rfl⟩ hR rfl hsz rfl hroom hf hdg) hI.2.2 (fun r τ1 H1 l1 hk hz hP hS => kk r τ1 H1 l1 hk ⟨hP, hz, hS⟩)
set_option maxHeartbeats 4000000 in
set_option maxRecDepth 100000 in
theorem met_isOwnHere (l : Launch) (D : va_G) (dA : Nat → ClassId) (ad : Nat → Nat) (hJ : rgJ twL ad) (sz : Nat) (τ : Sto) (K : Int32 → Sto → Prop) (hT : T_isOwnHere τ K) : Met l yX6_isOwnHere (ws_ yX6_isOwnHere cX6_isOwnHere 2 (some .boolean)) ({ frames := 3, cells := 0, slots := 0, locals := 55 }) (va_Pc [.ref (ad 0)] (rgU D vwCl dA twL ad sz τ)) (va_Qi K (rgU D vwCl dA twL ad sz) (rgAd twL ad)) 0 0 (rgAd twL ad) := by
  refine tw_metz hJ (by decide) rfl (Nat.le_of_ble_eq_true rfl) ?_
  intro p e s m args below meth c Q hC hret hI ls hl
  have hx := hC.1.1
  have hb := hC.1.2.1
  have hl : lv_has ls 2 [(0, .ref (ad 0))] := hl
  have w_299 : ∀ (s0 : Int32) (τ : Sto) (H : Heap) (locs : List Loc) (ls : Array Slot), T_isOwnHere_299 K s0 τ → tI D dA ad sz s.heap τ H locs → lv_has ls 2 [(0, .ref (ad 0))] → W p l e ({ frames := 3, cells := 0, slots := 0, locals := 55 }) s m args below meth c H locs 0 0 Q (F0 m 299 ls [.int s0]) := by
    intro s0 τ H locs ls hT hI hl
    unfold T_isOwnHere_299 at hT
    refine lv_istore_n (lv' := [(1, .int s0), (0, .ref (ad 0))]) hx hb dX6_isOwnHere_299 rfl hl (Nat.le_of_ble_eq_true rfl) rfl (fun ls hl => ?_)
    refine lv_iload_n hx hb dX6_isOwnHere_300 rfl (lv_at hl 0 rfl) ?_
    refine lv_if_ne (tgt := 348) hx hb dX6_isOwnHere_301 (by decide) (fun hc => ?_) (fun hc => ?_)
    · have hT := hT.1 hc
      refine lv_iconst (v := 1) hx hb dX6_isOwnHere_348 (by decide) ?_
      refine lv_goto (tgt := 353) hx hb dX6_isOwnHere_349 (by decide) ?_
      refine lv_istore_n (lv' := [(1, .int 1), (0, .ref (ad 0))]) hx hb dX6_isOwnHere_353 rfl hl (Nat.le_of_ble_eq_true rfl) rfl (fun ls hl => ?_)
      refine lv_iload_n hx hb dX6_isOwnHere_354 rfl (lv_at hl 0 rfl) ?_
      exact hret _ _ _ _ _ _ (by decide) hT hI dX6_isOwnHere_355
    · have hT := hT.2 hc
      refine lv_aload_n hx hb dX6_isOwnHere_304 rfl (lv_at hl 1 rfl) ?_
      refine lv_aload_n hx hb dX6_isOwnHere_305 rfl (lv_at hl 1 rfl) ?_
      refine tg_34 hC hI dX6_isOwnHere_306 ?_
      refine tc_isHere hC hI hT ⟨Nat.le_of_ble_eq_true rfl, Nat.le_of_ble_eq_true rfl⟩ ⟨Nat.zero_le _, Nat.zero_le _⟩ hl.1 (Nat.le_of_ble_eq_true rfl) dX6_isOwnHere_309 (fun r2 τ1 H locs hT hI => ?_)
      refine lv_if_ne (tgt := 348) hx hb dX6_isOwnHere_312 (by decide) (fun hc => ?_) (fun hc => ?_)
      · have hT := hT.1 hc
        refine lv_iconst (v := 1) hx hb dX6_isOwnHere_348 (by decide) ?_
        refine lv_goto (tgt := 353) hx hb dX6_isOwnHere_349 (by decide) ?_
        refine lv_istore_n (lv' := [(1, .int 1), (0, .ref (ad 0))]) hx hb dX6_isOwnHere_353 rfl hl (Nat.le_of_ble_eq_true rfl) rfl (fun ls hl => ?_)
        refine lv_iload_n hx hb dX6_isOwnHere_354 rfl (lv_at hl 0 rfl) ?_
        exact hret _ _ _ _ _ _ (by decide) hT hI dX6_isOwnHere_355
      · have hT := hT.2 hc
        refine lv_aload_n hx hb dX6_isOwnHere_315 rfl (lv_at hl 1 rfl) ?_
        refine lv_aload_n hx hb dX6_isOwnHere_316 rfl (lv_at hl 1 rfl) ?_
        refine tg_35 hC hI dX6_isOwnHere_317 ?_
        refine tc_isHere hC hI hT ⟨Nat.le_of_ble_eq_true rfl, Nat.le_of_ble_eq_true rfl⟩ ⟨Nat.zero_le _, Nat.zero_le _⟩ hl.1 (Nat.le_of_ble_eq_true rfl) dX6_isOwnHere_320 (fun r4 τ3 H locs hT hI => ?_)
        refine lv_if_ne (tgt := 348) hx hb dX6_isOwnHere_323 (by decide) (fun hc => ?_) (fun hc => ?_)
        · have hT := hT.1 hc
          refine lv_iconst (v := 1) hx hb dX6_isOwnHere_348 (by decide) ?_
          refine lv_goto (tgt := 353) hx hb dX6_isOwnHere_349 (by decide) ?_
          refine lv_istore_n (lv' := [(1, .int 1), (0, .ref (ad 0))]) hx hb dX6_isOwnHere_353 rfl hl (Nat.le_of_ble_eq_true rfl) rfl (fun ls hl => ?_)
          refine lv_iload_n hx hb dX6_isOwnHere_354 rfl (lv_at hl 0 rfl) ?_
          exact hret _ _ _ _ _ _ (by decide) hT hI dX6_isOwnHere_355
        · have hT := hT.2 hc
          refine lv_aload_n hx hb dX6_isOwnHere_326 rfl (lv_at hl 1 rfl) ?_
          refine lv_aload_n hx hb dX6_isOwnHere_327 rfl (lv_at hl 1 rfl) ?_
          refine tg_36 hC hI dX6_isOwnHere_328 ?_
          refine tc_isHere hC hI hT ⟨Nat.le_of_ble_eq_true rfl, Nat.le_of_ble_eq_true rfl⟩ ⟨Nat.zero_le _, Nat.zero_le _⟩ hl.1 (Nat.le_of_ble_eq_true rfl) dX6_isOwnHere_331 (fun r6 τ5 H locs hT hI => ?_)
          refine lv_if_ne (tgt := 348) hx hb dX6_isOwnHere_334 (by decide) (fun hc => ?_) (fun hc => ?_)
          · have hT := hT.1 hc
            refine lv_iconst (v := 1) hx hb dX6_isOwnHere_348 (by decide) ?_
            refine lv_goto (tgt := 353) hx hb dX6_isOwnHere_349 (by decide) ?_
            refine lv_istore_n (lv' := [(1, .int 1), (0, .ref (ad 0))]) hx hb dX6_isOwnHere_353 rfl hl (Nat.le_of_ble_eq_true rfl) rfl (fun ls hl => ?_)
            refine lv_iload_n hx hb dX6_isOwnHere_354 rfl (lv_at hl 0 rfl) ?_
            exact hret _ _ _ _ _ _ (by decide) hT hI dX6_isOwnHere_355
          · have hT := hT.2 hc
            refine lv_aload_n hx hb dX6_isOwnHere_337 rfl (lv_at hl 1 rfl) ?_
            refine lv_aload_n hx hb dX6_isOwnHere_338 rfl (lv_at hl 1 rfl) ?_
            refine tg_37 hC hI dX6_isOwnHere_339 ?_
            refine tc_isHere hC hI hT ⟨Nat.le_of_ble_eq_true rfl, Nat.le_of_ble_eq_true rfl⟩ ⟨Nat.zero_le _, Nat.zero_le _⟩ hl.1 (Nat.le_of_ble_eq_true rfl) dX6_isOwnHere_342 (fun r8 τ7 H locs hT hI => ?_)
            refine lv_if_eq (tgt := 352) hx hb dX6_isOwnHere_345 (by decide) (fun hc => ?_) (fun hc => ?_)
            · have hT := hT.1 hc
              refine lv_iconst (v := 0) hx hb dX6_isOwnHere_352 (by decide) ?_
              refine lv_istore_n (lv' := [(1, .int 0), (0, .ref (ad 0))]) hx hb dX6_isOwnHere_353 rfl hl (Nat.le_of_ble_eq_true rfl) rfl (fun ls hl => ?_)
              refine lv_iload_n hx hb dX6_isOwnHere_354 rfl (lv_at hl 0 rfl) ?_
              exact hret _ _ _ _ _ _ (by decide) hT hI dX6_isOwnHere_355
            · have hT := hT.2 hc
              refine lv_iconst (v := 1) hx hb dX6_isOwnHere_348 (by decide) ?_
              refine lv_goto (tgt := 353) hx hb dX6_isOwnHere_349 (by decide) ?_
              refine lv_istore_n (lv' := [(1, .int 1), (0, .ref (ad 0))]) hx hb dX6_isOwnHere_353 rfl hl (Nat.le_of_ble_eq_true rfl) rfl (fun ls hl => ?_)
              refine lv_iload_n hx hb dX6_isOwnHere_354 rfl (lv_at hl 0 rfl) ?_
              exact hret _ _ _ _ _ _ (by decide) hT hI dX6_isOwnHere_355
  have w_223 : ∀ (s0 : Int32) (τ : Sto) (H : Heap) (locs : List Loc) (ls : Array Slot), T_isOwnHere_223 K s0 τ → tI D dA ad sz s.heap τ H locs → lv_has ls 2 [(0, .ref (ad 0))] → W p l e ({ frames := 3, cells := 0, slots := 0, locals := 55 }) s m args below meth c H locs 0 0 Q (F0 m 223 ls [.int s0]) := by
    intro s0 τ H locs ls hT hI hl
    unfold T_isOwnHere_223 at hT
    refine lv_istore_n (lv' := [(1, .int s0), (0, .ref (ad 0))]) hx hb dX6_isOwnHere_223 rfl hl (Nat.le_of_ble_eq_true rfl) rfl (fun ls hl => ?_)
    refine lv_iload_n hx hb dX6_isOwnHere_224 rfl (lv_at hl 0 rfl) ?_
    refine lv_if_ne (tgt := 294) hx hb dX6_isOwnHere_225 (by decide) (fun hc => ?_) (fun hc => ?_)
    · have hT := hT.1 hc
      refine lv_iconst (v := 1) hx hb dX6_isOwnHere_294 (by decide) ?_
      refine lv_goto (tgt := 299) hx hb dX6_isOwnHere_295 (by decide) ?_
      exact w_299 1 τ _ _ _ hT hI (lv_sub hl [1] rfl)
    · have hT := hT.2 hc
      refine lv_aload_n hx hb dX6_isOwnHere_228 rfl (lv_at hl 1 rfl) ?_
      refine lv_aload_n hx hb dX6_isOwnHere_229 rfl (lv_at hl 1 rfl) ?_
      refine tg_28 hC hI dX6_isOwnHere_230 ?_
      refine tc_isHere hC hI hT ⟨Nat.le_of_ble_eq_true rfl, Nat.le_of_ble_eq_true rfl⟩ ⟨Nat.zero_le _, Nat.zero_le _⟩ hl.1 (Nat.le_of_ble_eq_true rfl) dX6_isOwnHere_233 (fun r10 τ9 H locs hT hI => ?_)
      refine lv_if_ne (tgt := 294) hx hb dX6_isOwnHere_236 (by decide) (fun hc => ?_) (fun hc => ?_)
      · have hT := hT.1 hc
        refine lv_iconst (v := 1) hx hb dX6_isOwnHere_294 (by decide) ?_
        refine lv_goto (tgt := 299) hx hb dX6_isOwnHere_295 (by decide) ?_
        exact w_299 1 τ9 _ _ _ hT hI (lv_sub hl [1] rfl)
      · have hT := hT.2 hc
        refine lv_aload_n hx hb dX6_isOwnHere_239 rfl (lv_at hl 1 rfl) ?_
        refine lv_aload_n hx hb dX6_isOwnHere_240 rfl (lv_at hl 1 rfl) ?_
        refine tg_29 hC hI dX6_isOwnHere_241 ?_
        refine tc_isHere hC hI hT ⟨Nat.le_of_ble_eq_true rfl, Nat.le_of_ble_eq_true rfl⟩ ⟨Nat.zero_le _, Nat.zero_le _⟩ hl.1 (Nat.le_of_ble_eq_true rfl) dX6_isOwnHere_244 (fun r12 τ11 H locs hT hI => ?_)
        refine lv_if_ne (tgt := 294) hx hb dX6_isOwnHere_247 (by decide) (fun hc => ?_) (fun hc => ?_)
        · have hT := hT.1 hc
          refine lv_iconst (v := 1) hx hb dX6_isOwnHere_294 (by decide) ?_
          refine lv_goto (tgt := 299) hx hb dX6_isOwnHere_295 (by decide) ?_
          exact w_299 1 τ11 _ _ _ hT hI (lv_sub hl [1] rfl)
        · have hT := hT.2 hc
          refine lv_aload_n hx hb dX6_isOwnHere_250 rfl (lv_at hl 1 rfl) ?_
          refine lv_aload_n hx hb dX6_isOwnHere_251 rfl (lv_at hl 1 rfl) ?_
          refine tg_30 hC hI dX6_isOwnHere_252 ?_
          refine tc_isHere hC hI hT ⟨Nat.le_of_ble_eq_true rfl, Nat.le_of_ble_eq_true rfl⟩ ⟨Nat.zero_le _, Nat.zero_le _⟩ hl.1 (Nat.le_of_ble_eq_true rfl) dX6_isOwnHere_255 (fun r14 τ13 H locs hT hI => ?_)
          refine lv_if_ne (tgt := 294) hx hb dX6_isOwnHere_258 (by decide) (fun hc => ?_) (fun hc => ?_)
          · have hT := hT.1 hc
            refine lv_iconst (v := 1) hx hb dX6_isOwnHere_294 (by decide) ?_
            refine lv_goto (tgt := 299) hx hb dX6_isOwnHere_295 (by decide) ?_
            exact w_299 1 τ13 _ _ _ hT hI (lv_sub hl [1] rfl)
          · have hT := hT.2 hc
            refine lv_aload_n hx hb dX6_isOwnHere_261 rfl (lv_at hl 1 rfl) ?_
            refine lv_aload_n hx hb dX6_isOwnHere_262 rfl (lv_at hl 1 rfl) ?_
            refine tg_31 hC hI dX6_isOwnHere_263 ?_
            refine tc_isHere hC hI hT ⟨Nat.le_of_ble_eq_true rfl, Nat.le_of_ble_eq_true rfl⟩ ⟨Nat.zero_le _, Nat.zero_le _⟩ hl.1 (Nat.le_of_ble_eq_true rfl) dX6_isOwnHere_266 (fun r16 τ15 H locs hT hI => ?_)
            refine lv_if_ne (tgt := 294) hx hb dX6_isOwnHere_269 (by decide) (fun hc => ?_) (fun hc => ?_)
            · have hT := hT.1 hc
              refine lv_iconst (v := 1) hx hb dX6_isOwnHere_294 (by decide) ?_
              refine lv_goto (tgt := 299) hx hb dX6_isOwnHere_295 (by decide) ?_
              exact w_299 1 τ15 _ _ _ hT hI (lv_sub hl [1] rfl)
            · have hT := hT.2 hc
              refine lv_aload_n hx hb dX6_isOwnHere_272 rfl (lv_at hl 1 rfl) ?_
              refine lv_aload_n hx hb dX6_isOwnHere_273 rfl (lv_at hl 1 rfl) ?_
              refine tg_32 hC hI dX6_isOwnHere_274 ?_
              refine tc_isHere hC hI hT ⟨Nat.le_of_ble_eq_true rfl, Nat.le_of_ble_eq_true rfl⟩ ⟨Nat.zero_le _, Nat.zero_le _⟩ hl.1 (Nat.le_of_ble_eq_true rfl) dX6_isOwnHere_277 (fun r18 τ17 H locs hT hI => ?_)
              refine lv_if_ne (tgt := 294) hx hb dX6_isOwnHere_280 (by decide) (fun hc => ?_) (fun hc => ?_)
              · have hT := hT.1 hc
                refine lv_iconst (v := 1) hx hb dX6_isOwnHere_294 (by decide) ?_
                refine lv_goto (tgt := 299) hx hb dX6_isOwnHere_295 (by decide) ?_
                exact w_299 1 τ17 _ _ _ hT hI (lv_sub hl [1] rfl)
              · have hT := hT.2 hc
                refine lv_aload_n hx hb dX6_isOwnHere_283 rfl (lv_at hl 1 rfl) ?_
                refine lv_aload_n hx hb dX6_isOwnHere_284 rfl (lv_at hl 1 rfl) ?_
                refine tg_33 hC hI dX6_isOwnHere_285 ?_
                refine tc_isHere hC hI hT ⟨Nat.le_of_ble_eq_true rfl, Nat.le_of_ble_eq_true rfl⟩ ⟨Nat.zero_le _, Nat.zero_le _⟩ hl.1 (Nat.le_of_ble_eq_true rfl) dX6_isOwnHere_288 (fun r20 τ19 H locs hT hI => ?_)
                refine lv_if_eq (tgt := 298) hx hb dX6_isOwnHere_291 (by decide) (fun hc => ?_) (fun hc => ?_)
                · have hT := hT.1 hc
                  refine lv_iconst (v := 0) hx hb dX6_isOwnHere_298 (by decide) ?_
                  exact w_299 0 τ19 _ _ _ hT hI (lv_sub hl [1] rfl)
                · have hT := hT.2 hc
                  refine lv_iconst (v := 1) hx hb dX6_isOwnHere_294 (by decide) ?_
                  refine lv_goto (tgt := 299) hx hb dX6_isOwnHere_295 (by decide) ?_
                  exact w_299 1 τ19 _ _ _ hT hI (lv_sub hl [1] rfl)
  have w_147 : ∀ (s0 : Int32) (τ : Sto) (H : Heap) (locs : List Loc) (ls : Array Slot), T_isOwnHere_147 K s0 τ → tI D dA ad sz s.heap τ H locs → lv_has ls 2 [(0, .ref (ad 0))] → W p l e ({ frames := 3, cells := 0, slots := 0, locals := 55 }) s m args below meth c H locs 0 0 Q (F0 m 147 ls [.int s0]) := by
    intro s0 τ H locs ls hT hI hl
    unfold T_isOwnHere_147 at hT
    refine lv_istore_n (lv' := [(1, .int s0), (0, .ref (ad 0))]) hx hb dX6_isOwnHere_147 rfl hl (Nat.le_of_ble_eq_true rfl) rfl (fun ls hl => ?_)
    refine lv_iload_n hx hb dX6_isOwnHere_148 rfl (lv_at hl 0 rfl) ?_
    refine lv_if_ne (tgt := 218) hx hb dX6_isOwnHere_149 (by decide) (fun hc => ?_) (fun hc => ?_)
    · have hT := hT.1 hc
      refine lv_iconst (v := 1) hx hb dX6_isOwnHere_218 (by decide) ?_
      refine lv_goto (tgt := 223) hx hb dX6_isOwnHere_219 (by decide) ?_
      exact w_223 1 τ _ _ _ hT hI (lv_sub hl [1] rfl)
    · have hT := hT.2 hc
      refine lv_aload_n hx hb dX6_isOwnHere_152 rfl (lv_at hl 1 rfl) ?_
      refine lv_aload_n hx hb dX6_isOwnHere_153 rfl (lv_at hl 1 rfl) ?_
      refine tg_22 hC hI dX6_isOwnHere_154 ?_
      refine tc_isHere hC hI hT ⟨Nat.le_of_ble_eq_true rfl, Nat.le_of_ble_eq_true rfl⟩ ⟨Nat.zero_le _, Nat.zero_le _⟩ hl.1 (Nat.le_of_ble_eq_true rfl) dX6_isOwnHere_157 (fun r22 τ21 H locs hT hI => ?_)
      refine lv_if_ne (tgt := 218) hx hb dX6_isOwnHere_160 (by decide) (fun hc => ?_) (fun hc => ?_)
      · have hT := hT.1 hc
        refine lv_iconst (v := 1) hx hb dX6_isOwnHere_218 (by decide) ?_
        refine lv_goto (tgt := 223) hx hb dX6_isOwnHere_219 (by decide) ?_
        exact w_223 1 τ21 _ _ _ hT hI (lv_sub hl [1] rfl)
      · have hT := hT.2 hc
        refine lv_aload_n hx hb dX6_isOwnHere_163 rfl (lv_at hl 1 rfl) ?_
        refine lv_aload_n hx hb dX6_isOwnHere_164 rfl (lv_at hl 1 rfl) ?_
        refine tg_23 hC hI dX6_isOwnHere_165 ?_
        refine tc_isHere hC hI hT ⟨Nat.le_of_ble_eq_true rfl, Nat.le_of_ble_eq_true rfl⟩ ⟨Nat.zero_le _, Nat.zero_le _⟩ hl.1 (Nat.le_of_ble_eq_true rfl) dX6_isOwnHere_168 (fun r24 τ23 H locs hT hI => ?_)
        refine lv_if_ne (tgt := 218) hx hb dX6_isOwnHere_171 (by decide) (fun hc => ?_) (fun hc => ?_)
        · have hT := hT.1 hc
          refine lv_iconst (v := 1) hx hb dX6_isOwnHere_218 (by decide) ?_
          refine lv_goto (tgt := 223) hx hb dX6_isOwnHere_219 (by decide) ?_
          exact w_223 1 τ23 _ _ _ hT hI (lv_sub hl [1] rfl)
        · have hT := hT.2 hc
          refine lv_aload_n hx hb dX6_isOwnHere_174 rfl (lv_at hl 1 rfl) ?_
          refine lv_aload_n hx hb dX6_isOwnHere_175 rfl (lv_at hl 1 rfl) ?_
          refine tg_24 hC hI dX6_isOwnHere_176 ?_
          refine tc_isHere hC hI hT ⟨Nat.le_of_ble_eq_true rfl, Nat.le_of_ble_eq_true rfl⟩ ⟨Nat.zero_le _, Nat.zero_le _⟩ hl.1 (Nat.le_of_ble_eq_true rfl) dX6_isOwnHere_179 (fun r26 τ25 H locs hT hI => ?_)
          refine lv_if_ne (tgt := 218) hx hb dX6_isOwnHere_182 (by decide) (fun hc => ?_) (fun hc => ?_)
          · have hT := hT.1 hc
            refine lv_iconst (v := 1) hx hb dX6_isOwnHere_218 (by decide) ?_
            refine lv_goto (tgt := 223) hx hb dX6_isOwnHere_219 (by decide) ?_
            exact w_223 1 τ25 _ _ _ hT hI (lv_sub hl [1] rfl)
          · have hT := hT.2 hc
            refine lv_aload_n hx hb dX6_isOwnHere_185 rfl (lv_at hl 1 rfl) ?_
            refine lv_aload_n hx hb dX6_isOwnHere_186 rfl (lv_at hl 1 rfl) ?_
            refine tg_25 hC hI dX6_isOwnHere_187 ?_
            refine tc_isHere hC hI hT ⟨Nat.le_of_ble_eq_true rfl, Nat.le_of_ble_eq_true rfl⟩ ⟨Nat.zero_le _, Nat.zero_le _⟩ hl.1 (Nat.le_of_ble_eq_true rfl) dX6_isOwnHere_190 (fun r28 τ27 H locs hT hI => ?_)
            refine lv_if_ne (tgt := 218) hx hb dX6_isOwnHere_193 (by decide) (fun hc => ?_) (fun hc => ?_)
            · have hT := hT.1 hc
              refine lv_iconst (v := 1) hx hb dX6_isOwnHere_218 (by decide) ?_
              refine lv_goto (tgt := 223) hx hb dX6_isOwnHere_219 (by decide) ?_
              exact w_223 1 τ27 _ _ _ hT hI (lv_sub hl [1] rfl)
            · have hT := hT.2 hc
              refine lv_aload_n hx hb dX6_isOwnHere_196 rfl (lv_at hl 1 rfl) ?_
              refine lv_aload_n hx hb dX6_isOwnHere_197 rfl (lv_at hl 1 rfl) ?_
              refine tg_26 hC hI dX6_isOwnHere_198 ?_
              refine tc_isHere hC hI hT ⟨Nat.le_of_ble_eq_true rfl, Nat.le_of_ble_eq_true rfl⟩ ⟨Nat.zero_le _, Nat.zero_le _⟩ hl.1 (Nat.le_of_ble_eq_true rfl) dX6_isOwnHere_201 (fun r30 τ29 H locs hT hI => ?_)
              refine lv_if_ne (tgt := 218) hx hb dX6_isOwnHere_204 (by decide) (fun hc => ?_) (fun hc => ?_)
              · have hT := hT.1 hc
                refine lv_iconst (v := 1) hx hb dX6_isOwnHere_218 (by decide) ?_
                refine lv_goto (tgt := 223) hx hb dX6_isOwnHere_219 (by decide) ?_
                exact w_223 1 τ29 _ _ _ hT hI (lv_sub hl [1] rfl)
              · have hT := hT.2 hc
                refine lv_aload_n hx hb dX6_isOwnHere_207 rfl (lv_at hl 1 rfl) ?_
                refine lv_aload_n hx hb dX6_isOwnHere_208 rfl (lv_at hl 1 rfl) ?_
                refine tg_27 hC hI dX6_isOwnHere_209 ?_
                refine tc_isHere hC hI hT ⟨Nat.le_of_ble_eq_true rfl, Nat.le_of_ble_eq_true rfl⟩ ⟨Nat.zero_le _, Nat.zero_le _⟩ hl.1 (Nat.le_of_ble_eq_true rfl) dX6_isOwnHere_212 (fun r32 τ31 H locs hT hI => ?_)
                refine lv_if_eq (tgt := 222) hx hb dX6_isOwnHere_215 (by decide) (fun hc => ?_) (fun hc => ?_)
                · have hT := hT.1 hc
                  refine lv_iconst (v := 0) hx hb dX6_isOwnHere_222 (by decide) ?_
                  exact w_223 0 τ31 _ _ _ hT hI (lv_sub hl [1] rfl)
                · have hT := hT.2 hc
                  refine lv_iconst (v := 1) hx hb dX6_isOwnHere_218 (by decide) ?_
                  refine lv_goto (tgt := 223) hx hb dX6_isOwnHere_219 (by decide) ?_
                  exact w_223 1 τ31 _ _ _ hT hI (lv_sub hl [1] rfl)
  have w_71 : ∀ (s0 : Int32) (τ : Sto) (H : Heap) (locs : List Loc) (ls : Array Slot), T_isOwnHere_71 K s0 τ → tI D dA ad sz s.heap τ H locs → lv_has ls 2 [(0, .ref (ad 0))] → W p l e ({ frames := 3, cells := 0, slots := 0, locals := 55 }) s m args below meth c H locs 0 0 Q (F0 m 71 ls [.int s0]) := by
    intro s0 τ H locs ls hT hI hl
    unfold T_isOwnHere_71 at hT
    refine lv_istore_n (lv' := [(1, .int s0), (0, .ref (ad 0))]) hx hb dX6_isOwnHere_71 rfl hl (Nat.le_of_ble_eq_true rfl) rfl (fun ls hl => ?_)
    refine lv_iload_n hx hb dX6_isOwnHere_72 rfl (lv_at hl 0 rfl) ?_
    refine lv_if_ne (tgt := 142) hx hb dX6_isOwnHere_73 (by decide) (fun hc => ?_) (fun hc => ?_)
    · have hT := hT.1 hc
      refine lv_iconst (v := 1) hx hb dX6_isOwnHere_142 (by decide) ?_
      refine lv_goto (tgt := 147) hx hb dX6_isOwnHere_143 (by decide) ?_
      exact w_147 1 τ _ _ _ hT hI (lv_sub hl [1] rfl)
    · have hT := hT.2 hc
      refine lv_aload_n hx hb dX6_isOwnHere_76 rfl (lv_at hl 1 rfl) ?_
      refine lv_aload_n hx hb dX6_isOwnHere_77 rfl (lv_at hl 1 rfl) ?_
      refine tg_16 hC hI dX6_isOwnHere_78 ?_
      refine tc_isHere hC hI hT ⟨Nat.le_of_ble_eq_true rfl, Nat.le_of_ble_eq_true rfl⟩ ⟨Nat.zero_le _, Nat.zero_le _⟩ hl.1 (Nat.le_of_ble_eq_true rfl) dX6_isOwnHere_81 (fun r34 τ33 H locs hT hI => ?_)
      refine lv_if_ne (tgt := 142) hx hb dX6_isOwnHere_84 (by decide) (fun hc => ?_) (fun hc => ?_)
      · have hT := hT.1 hc
        refine lv_iconst (v := 1) hx hb dX6_isOwnHere_142 (by decide) ?_
        refine lv_goto (tgt := 147) hx hb dX6_isOwnHere_143 (by decide) ?_
        exact w_147 1 τ33 _ _ _ hT hI (lv_sub hl [1] rfl)
      · have hT := hT.2 hc
        refine lv_aload_n hx hb dX6_isOwnHere_87 rfl (lv_at hl 1 rfl) ?_
        refine lv_aload_n hx hb dX6_isOwnHere_88 rfl (lv_at hl 1 rfl) ?_
        refine tg_17 hC hI dX6_isOwnHere_89 ?_
        refine tc_isHere hC hI hT ⟨Nat.le_of_ble_eq_true rfl, Nat.le_of_ble_eq_true rfl⟩ ⟨Nat.zero_le _, Nat.zero_le _⟩ hl.1 (Nat.le_of_ble_eq_true rfl) dX6_isOwnHere_92 (fun r36 τ35 H locs hT hI => ?_)
        refine lv_if_ne (tgt := 142) hx hb dX6_isOwnHere_95 (by decide) (fun hc => ?_) (fun hc => ?_)
        · have hT := hT.1 hc
          refine lv_iconst (v := 1) hx hb dX6_isOwnHere_142 (by decide) ?_
          refine lv_goto (tgt := 147) hx hb dX6_isOwnHere_143 (by decide) ?_
          exact w_147 1 τ35 _ _ _ hT hI (lv_sub hl [1] rfl)
        · have hT := hT.2 hc
          refine lv_aload_n hx hb dX6_isOwnHere_98 rfl (lv_at hl 1 rfl) ?_
          refine lv_aload_n hx hb dX6_isOwnHere_99 rfl (lv_at hl 1 rfl) ?_
          refine tg_18 hC hI dX6_isOwnHere_100 ?_
          refine tc_isHere hC hI hT ⟨Nat.le_of_ble_eq_true rfl, Nat.le_of_ble_eq_true rfl⟩ ⟨Nat.zero_le _, Nat.zero_le _⟩ hl.1 (Nat.le_of_ble_eq_true rfl) dX6_isOwnHere_103 (fun r38 τ37 H locs hT hI => ?_)
          refine lv_if_ne (tgt := 142) hx hb dX6_isOwnHere_106 (by decide) (fun hc => ?_) (fun hc => ?_)
          · have hT := hT.1 hc
            refine lv_iconst (v := 1) hx hb dX6_isOwnHere_142 (by decide) ?_
            refine lv_goto (tgt := 147) hx hb dX6_isOwnHere_143 (by decide) ?_
            exact w_147 1 τ37 _ _ _ hT hI (lv_sub hl [1] rfl)
          · have hT := hT.2 hc
            refine lv_aload_n hx hb dX6_isOwnHere_109 rfl (lv_at hl 1 rfl) ?_
            refine lv_aload_n hx hb dX6_isOwnHere_110 rfl (lv_at hl 1 rfl) ?_
            refine tg_19 hC hI dX6_isOwnHere_111 ?_
            refine tc_isHere hC hI hT ⟨Nat.le_of_ble_eq_true rfl, Nat.le_of_ble_eq_true rfl⟩ ⟨Nat.zero_le _, Nat.zero_le _⟩ hl.1 (Nat.le_of_ble_eq_true rfl) dX6_isOwnHere_114 (fun r40 τ39 H locs hT hI => ?_)
            refine lv_if_ne (tgt := 142) hx hb dX6_isOwnHere_117 (by decide) (fun hc => ?_) (fun hc => ?_)
            · have hT := hT.1 hc
              refine lv_iconst (v := 1) hx hb dX6_isOwnHere_142 (by decide) ?_
              refine lv_goto (tgt := 147) hx hb dX6_isOwnHere_143 (by decide) ?_
              exact w_147 1 τ39 _ _ _ hT hI (lv_sub hl [1] rfl)
            · have hT := hT.2 hc
              refine lv_aload_n hx hb dX6_isOwnHere_120 rfl (lv_at hl 1 rfl) ?_
              refine lv_aload_n hx hb dX6_isOwnHere_121 rfl (lv_at hl 1 rfl) ?_
              refine tg_20 hC hI dX6_isOwnHere_122 ?_
              refine tc_isHere hC hI hT ⟨Nat.le_of_ble_eq_true rfl, Nat.le_of_ble_eq_true rfl⟩ ⟨Nat.zero_le _, Nat.zero_le _⟩ hl.1 (Nat.le_of_ble_eq_true rfl) dX6_isOwnHere_125 (fun r42 τ41 H locs hT hI => ?_)
              refine lv_if_ne (tgt := 142) hx hb dX6_isOwnHere_128 (by decide) (fun hc => ?_) (fun hc => ?_)
              · have hT := hT.1 hc
                refine lv_iconst (v := 1) hx hb dX6_isOwnHere_142 (by decide) ?_
                refine lv_goto (tgt := 147) hx hb dX6_isOwnHere_143 (by decide) ?_
                exact w_147 1 τ41 _ _ _ hT hI (lv_sub hl [1] rfl)
              · have hT := hT.2 hc
                refine lv_aload_n hx hb dX6_isOwnHere_131 rfl (lv_at hl 1 rfl) ?_
                refine lv_aload_n hx hb dX6_isOwnHere_132 rfl (lv_at hl 1 rfl) ?_
                refine tg_21 hC hI dX6_isOwnHere_133 ?_
                refine tc_isHere hC hI hT ⟨Nat.le_of_ble_eq_true rfl, Nat.le_of_ble_eq_true rfl⟩ ⟨Nat.zero_le _, Nat.zero_le _⟩ hl.1 (Nat.le_of_ble_eq_true rfl) dX6_isOwnHere_136 (fun r44 τ43 H locs hT hI => ?_)
                refine lv_if_eq (tgt := 146) hx hb dX6_isOwnHere_139 (by decide) (fun hc => ?_) (fun hc => ?_)
                · have hT := hT.1 hc
                  refine lv_iconst (v := 0) hx hb dX6_isOwnHere_146 (by decide) ?_
                  exact w_147 0 τ43 _ _ _ hT hI (lv_sub hl [1] rfl)
                · have hT := hT.2 hc
                  refine lv_iconst (v := 1) hx hb dX6_isOwnHere_142 (by decide) ?_
                  refine lv_goto (tgt := 147) hx hb dX6_isOwnHere_143 (by decide) ?_
                  exact w_147 1 τ43 _ _ _ hT hI (lv_sub hl [1] rfl)
  unfold T_isOwnHere at hT
  refine lv_aload_n hx hb dX6_isOwnHere_0 rfl (lv_at hl 0 rfl) ?_
  refine lv_aload_n hx hb dX6_isOwnHere_1 rfl (lv_at hl 0 rfl) ?_
  refine tg_10 hC hI dX6_isOwnHere_2 ?_
  refine tc_isHere hC hI hT ⟨Nat.le_of_ble_eq_true rfl, Nat.le_of_ble_eq_true rfl⟩ ⟨Nat.zero_le _, Nat.zero_le _⟩ hl.1 (Nat.le_of_ble_eq_true rfl) dX6_isOwnHere_5 (fun r46 τ45 H locs hT hI => ?_)
  refine lv_if_ne (tgt := 66) hx hb dX6_isOwnHere_8 (by decide) (fun hc => ?_) (fun hc => ?_)
  · have hT := hT.1 hc
    refine lv_iconst (v := 1) hx hb dX6_isOwnHere_66 (by decide) ?_
    refine lv_goto (tgt := 71) hx hb dX6_isOwnHere_67 (by decide) ?_
    exact w_71 1 τ45 _ _ _ hT hI (lv_sub hl [0] rfl)
  · have hT := hT.2 hc
    refine lv_aload_n hx hb dX6_isOwnHere_11 rfl (lv_at hl 0 rfl) ?_
    refine lv_aload_n hx hb dX6_isOwnHere_12 rfl (lv_at hl 0 rfl) ?_
    refine tg_11 hC hI dX6_isOwnHere_13 ?_
    refine tc_isHere hC hI hT ⟨Nat.le_of_ble_eq_true rfl, Nat.le_of_ble_eq_true rfl⟩ ⟨Nat.zero_le _, Nat.zero_le _⟩ hl.1 (Nat.le_of_ble_eq_true rfl) dX6_isOwnHere_16 (fun r48 τ47 H locs hT hI => ?_)
    refine lv_if_ne (tgt := 66) hx hb dX6_isOwnHere_19 (by decide) (fun hc => ?_) (fun hc => ?_)
    · have hT := hT.1 hc
      refine lv_iconst (v := 1) hx hb dX6_isOwnHere_66 (by decide) ?_
      refine lv_goto (tgt := 71) hx hb dX6_isOwnHere_67 (by decide) ?_
      exact w_71 1 τ47 _ _ _ hT hI (lv_sub hl [0] rfl)
    · have hT := hT.2 hc
      refine lv_aload_n hx hb dX6_isOwnHere_22 rfl (lv_at hl 0 rfl) ?_
      refine lv_aload_n hx hb dX6_isOwnHere_23 rfl (lv_at hl 0 rfl) ?_
      refine tg_12 hC hI dX6_isOwnHere_24 ?_
      refine tc_isHere hC hI hT ⟨Nat.le_of_ble_eq_true rfl, Nat.le_of_ble_eq_true rfl⟩ ⟨Nat.zero_le _, Nat.zero_le _⟩ hl.1 (Nat.le_of_ble_eq_true rfl) dX6_isOwnHere_27 (fun r50 τ49 H locs hT hI => ?_)
      refine lv_if_ne (tgt := 66) hx hb dX6_isOwnHere_30 (by decide) (fun hc => ?_) (fun hc => ?_)
      · have hT := hT.1 hc
        refine lv_iconst (v := 1) hx hb dX6_isOwnHere_66 (by decide) ?_
        refine lv_goto (tgt := 71) hx hb dX6_isOwnHere_67 (by decide) ?_
        exact w_71 1 τ49 _ _ _ hT hI (lv_sub hl [0] rfl)
      · have hT := hT.2 hc
        refine lv_aload_n hx hb dX6_isOwnHere_33 rfl (lv_at hl 0 rfl) ?_
        refine lv_aload_n hx hb dX6_isOwnHere_34 rfl (lv_at hl 0 rfl) ?_
        refine tg_13 hC hI dX6_isOwnHere_35 ?_
        refine tc_isHere hC hI hT ⟨Nat.le_of_ble_eq_true rfl, Nat.le_of_ble_eq_true rfl⟩ ⟨Nat.zero_le _, Nat.zero_le _⟩ hl.1 (Nat.le_of_ble_eq_true rfl) dX6_isOwnHere_38 (fun r52 τ51 H locs hT hI => ?_)
        refine lv_if_ne (tgt := 66) hx hb dX6_isOwnHere_41 (by decide) (fun hc => ?_) (fun hc => ?_)
        · have hT := hT.1 hc
          refine lv_iconst (v := 1) hx hb dX6_isOwnHere_66 (by decide) ?_
          refine lv_goto (tgt := 71) hx hb dX6_isOwnHere_67 (by decide) ?_
          exact w_71 1 τ51 _ _ _ hT hI (lv_sub hl [0] rfl)
        · have hT := hT.2 hc
          refine lv_aload_n hx hb dX6_isOwnHere_44 rfl (lv_at hl 0 rfl) ?_
          refine lv_aload_n hx hb dX6_isOwnHere_45 rfl (lv_at hl 0 rfl) ?_
          refine tg_14 hC hI dX6_isOwnHere_46 ?_
          refine tc_isHere hC hI hT ⟨Nat.le_of_ble_eq_true rfl, Nat.le_of_ble_eq_true rfl⟩ ⟨Nat.zero_le _, Nat.zero_le _⟩ hl.1 (Nat.le_of_ble_eq_true rfl) dX6_isOwnHere_49 (fun r54 τ53 H locs hT hI => ?_)
          refine lv_if_ne (tgt := 66) hx hb dX6_isOwnHere_52 (by decide) (fun hc => ?_) (fun hc => ?_)
          · have hT := hT.1 hc
            refine lv_iconst (v := 1) hx hb dX6_isOwnHere_66 (by decide) ?_
            refine lv_goto (tgt := 71) hx hb dX6_isOwnHere_67 (by decide) ?_
            exact w_71 1 τ53 _ _ _ hT hI (lv_sub hl [0] rfl)
          · have hT := hT.2 hc
            refine lv_aload_n hx hb dX6_isOwnHere_55 rfl (lv_at hl 0 rfl) ?_
            refine lv_aload_n hx hb dX6_isOwnHere_56 rfl (lv_at hl 0 rfl) ?_
            refine tg_15 hC hI dX6_isOwnHere_57 ?_
            refine tc_isHere hC hI hT ⟨Nat.le_of_ble_eq_true rfl, Nat.le_of_ble_eq_true rfl⟩ ⟨Nat.zero_le _, Nat.zero_le _⟩ hl.1 (Nat.le_of_ble_eq_true rfl) dX6_isOwnHere_60 (fun r56 τ55 H locs hT hI => ?_)
            refine lv_if_eq (tgt := 70) hx hb dX6_isOwnHere_63 (by decide) (fun hc => ?_) (fun hc => ?_)
            · have hT := hT.1 hc
              refine lv_iconst (v := 0) hx hb dX6_isOwnHere_70 (by decide) ?_
              exact w_71 0 τ55 _ _ _ hT hI (lv_sub hl [0] rfl)
            · have hT := hT.2 hc
              refine lv_iconst (v := 1) hx hb dX6_isOwnHere_66 (by decide) ?_
              refine lv_goto (tgt := 71) hx hb dX6_isOwnHere_67 (by decide) ?_
              exact w_71 1 τ55 _ _ _ hT hI (lv_sub hl [0] rfl)
theorem tc_isOwnHere {p : Program} {l : Launch} {e : Env} {R : Room} {s : State} {m : MethodId} {args : Array Value} {below : List Frame} {meth : Method} {c : Code} {H : Heap} {locs : List Loc} {cells slots : Nat} {Q : State → Prop} {cc : ByteArray} {nL : Nat} {D : va_G} {dA : Nat → ClassId} {ad : Nat → Nat} {τ : Sto} {pc sz : Nat} {ls : Array Slot} {rest : List Value} {H0 : Heap} {K : Int32 → Sto → Prop} (hC : tC p m c cc nL s args D dA ad) (hI : tI D dA ad sz H0 τ H locs) (hT : T_isOwnHere τ K) (hR : 3 + 1 ≤ R.frames ∧ 8 + (2 + 11) + 55 ≤ R.locals) (hf : cells ≤ R.cells ∧ slots ≤ R.slots) (hsz : ls.size = nL) (hroom : (rest.map fun v => v.category).sum ≤ 8) (hdg : decode cc pc = .ok (.invokevirtual 290, 3)) (kk : ∀ (r : Int32) (τ1 : Sto) (H1 : Heap) (locs1 : List Loc), K r τ1 → tI D dA ad sz H0 τ1 H1 locs1 → W p l e R s m args below meth c H1 locs1 cells slots Q (F0 m (pc + 3) ls (.int r :: rest))) : W p l e R s m args below meth c H locs cells slots Q (F0 m pc ls (.ref (ad 0) :: rest)) :=
  rg_calli (rg_runV hC.1 hC.2.1 hI.1 hI.2.1 tl_0 rfl (met_isOwnHere l D dA ad hC.2.2 sz τ K hT) (lw_V q2061 q2063 qs71 q170 q2064) 0 (by decide +kernel) ⟨rfl, rfl⟩ hR rfl hsz rfl hroom hf hdg) hI.2.2 (fun r τ1 H1 l1 hk hz hP hS => kk r τ1 H1 l1 hk ⟨hP, hz, hS⟩)
set_option maxHeartbeats 4000000 in
set_option maxRecDepth 100000 in
theorem met_name (l : Launch) (D : va_G) (dA : Nat → ClassId) (ad : Nat → Nat) (hJ : rgJ twL ad) (sz : Nat) (τ : Sto) (K : Int64 → Sto → Prop) (hT : T_name τ K) : Met l yX6_name (ws_ yX6_name cX6_name 3 (some .long)) ({ frames := 4, cells := 0, slots := 0, locals := 76 }) (va_Pc [.ref (ad 0)] (rgU D vwCl dA twL ad sz τ)) (va_Ql K (rgU D vwCl dA twL ad sz) (rgAd twL ad)) 0 0 (rgAd twL ad) := by
  refine tw_metl hJ (by decide) rfl (Nat.le_of_ble_eq_true rfl) ?_
  intro p e s m args below meth c Q hC hret hI ls hl
  have hx := hC.1.1
  have hb := hC.1.2.1
  have hl : lv_has ls 3 [(0, .ref (ad 0))] := hl
  have w_58 : ∀ (n : Nat) (x1 : Int64) (τ : Sto) (H : Heap) (locs : List Loc) (ls : Array Slot), T_name_58 K n x1 τ → tI D dA ad sz s.heap τ H locs → lv_has ls 3 [(0, .ref (ad 0)), (1, .long x1)] → W p l e ({ frames := 4, cells := 0, slots := 0, locals := 76 }) s m args below meth c H locs 0 0 Q (F0 m 58 ls []) := by
    intro n
    induction n with
    | zero => intro x1 τ H locs ls hT; exact hT.elim
    | succ n ih =>
      intro x1 τ H locs ls hT hI hl
      unfold T_name_58 at hT
      refine lv_aload_n hx hb dX6_name_58 rfl (lv_at hl 0 rfl) ?_
      refine tg_2 hC hI dX6_name_59 ?_
      refine lv_aload_n hx hb dX6_name_62 rfl (lv_at hl 0 rfl) ?_
      refine tg_3 hC hI dX6_name_63 ?_
      refine lv_icmp_ge (tgt := 145) hx hb dX6_name_66 (by decide) (fun hc => ?_) (fun hc => ?_)
      · have hT := hT.1 hc
        refine lv_aload_n hx hb dX6_name_145 rfl (lv_at hl 0 rfl) ?_
        refine lv_aload_n hx hb dX6_name_146 rfl (lv_at hl 0 rfl) ?_
        refine tg_2 hC hI dX6_name_147 ?_
        refine tp_4 hC hI hT dX6_name_150 (fun τ1 H locs hT hI => ?_)
        refine lv_lload_n hx hb dX6_name_153 rfl (lv_at hl 1 rfl) ?_
        exact hret _ _ _ _ _ _ hT hI dX6_name_154
      · have hT := hT.2 hc
        refine lv_aload_n hx hb dX6_name_69 rfl (lv_at hl 0 rfl) ?_
        refine tg_0 hC hI dX6_name_70 ?_
        refine lv_aload_n hx hb dX6_name_73 rfl (lv_at hl 0 rfl) ?_
        refine tg_2 hC hI dX6_name_74 ?_
        refine tw_iald hC hI tl_1 hT dX6_name_77 (fun hT => ?_)
        refine tc_isLetter hC hI hT ⟨Nat.le_of_ble_eq_true rfl, Nat.le_of_ble_eq_true rfl⟩ ⟨Nat.zero_le _, Nat.zero_le _⟩ hl.1 (Nat.le_of_ble_eq_true rfl) dX6_name_78 (fun r3 τ2 H locs hT hI => ?_)
        refine lv_if_eq (tgt := 145) hx hb dX6_name_81 (by decide) (fun hc => ?_) (fun hc => ?_)
        · have hT := hT.1 hc
          refine lv_aload_n hx hb dX6_name_145 rfl (lv_at hl 0 rfl) ?_
          refine lv_aload_n hx hb dX6_name_146 rfl (lv_at hl 0 rfl) ?_
          refine tg_2 hC hI dX6_name_147 ?_
          refine tp_4 hC hI hT dX6_name_150 (fun τ4 H locs hT hI => ?_)
          refine lv_lload_n hx hb dX6_name_153 rfl (lv_at hl 1 rfl) ?_
          exact hret _ _ _ _ _ _ hT hI dX6_name_154
        · have hT := hT.2 hc
          refine lv_aload_n hx hb dX6_name_84 rfl (lv_at hl 0 rfl) ?_
          refine tg_2 hC hI dX6_name_85 ?_
          refine lv_aload_n hx hb dX6_name_88 rfl (lv_at hl 0 rfl) ?_
          refine tg_38 hC hI dX6_name_89 ?_
          refine lv_isub hx hb dX6_name_92 ?_
          refine lv_bipush (v := 6) hx hb dX6_name_93 (by decide) ?_
          refine lv_icmp_ne (tgt := 109) hx hb dX6_name_95 (by decide) (fun hc => ?_) (fun hc => ?_)
          · have hT := hT.1 hc
            refine lv_ldc2 hx hb hC.1.2.2.2.1 (hC.1.2.2.2.2 _ q2065) dX6_name_109 ?_
            refine lv_lload_n hx hb dX6_name_112 rfl (lv_at hl 1 rfl) ?_
            refine lv_lmul hx hb dX6_name_113 ?_
            refine lv_aload_n hx hb dX6_name_114 rfl (lv_at hl 0 rfl) ?_
            refine tg_0 hC hI dX6_name_115 ?_
            refine lv_aload_n hx hb dX6_name_118 rfl (lv_at hl 0 rfl) ?_
            refine tg_2 hC hI dX6_name_119 ?_
            refine tw_iald hC hI tl_1 hT dX6_name_122 (fun hT => ?_)
            refine lv_i2l hx hb dX6_name_123 rfl ?_
            refine lv_ladd hx hb dX6_name_124 ?_
            refine lv_ldc2 hx hb hC.1.2.2.2.1 (hC.1.2.2.2.2 _ q2066) dX6_name_125 ?_
            refine lv_lsub hx hb dX6_name_128 ?_
            refine lv_lconst (v := 1) hx hb dX6_name_129 (by decide) ?_
            refine lv_ladd hx hb dX6_name_130 ?_
            refine lv_topl (fun y5 h6 => ?_)
            have hT := hT y5 h6
            refine lv_lstore_n (lv' := [(1, .long y5), (0, .ref (ad 0))]) hx hb dX6_name_131 rfl hl (Nat.le_of_ble_eq_true rfl) rfl (fun ls hl => ?_)
            refine lv_aload_n hx hb dX6_name_132 rfl (lv_at hl 1 rfl) ?_
            refine lv_dup hx hb dX6_name_133 rfl ?_
            refine tg_2 hC hI dX6_name_134 ?_
            refine lv_iconst (v := 1) hx hb dX6_name_137 (by decide) ?_
            refine lv_iadd hx hb dX6_name_138 ?_
            refine tp_2 hC hI hT dX6_name_139 (fun τ7 H locs hT hI => ?_)
            refine lv_goto (tgt := 58) hx hb dX6_name_142 (by decide) ?_
            exact ih y5 τ7 _ _ _ hT hI (lv_sub hl [1, 0] rfl)
          · have hT := hT.2 hc
            refine lv_aload_n hx hb dX6_name_98 rfl (lv_at hl 0 rfl) ?_
            refine lv_iconst (v := 1) hx hb dX6_name_99 (by decide) ?_
            refine lv_aload_n hx hb dX6_name_100 rfl (lv_at hl 0 rfl) ?_
            refine tg_2 hC hI dX6_name_101 ?_
            refine tc_fail hC hI hT ⟨Nat.le_of_ble_eq_true rfl, Nat.le_of_ble_eq_true rfl⟩ ⟨Nat.zero_le _, Nat.zero_le _⟩ hl.1 (Nat.le_of_ble_eq_true rfl) dX6_name_104 (fun τ8 H locs hT hI => ?_)
            refine lv_lconst (v := 0) hx hb dX6_name_107 (by decide) ?_
            exact hret _ _ _ _ _ _ hT hI dX6_name_108
  unfold T_name at hT
  refine lv_aload_n hx hb dX6_name_0 rfl (lv_at hl 0 rfl) ?_
  refine tg_5 hC hI dX6_name_1 ?_
  refine lv_if_eq (tgt := 9) hx hb dX6_name_4 (by decide) (fun hc => ?_) (fun hc => ?_)
  · have hT := hT.1 hc
    refine lv_aload_n hx hb dX6_name_9 rfl (lv_at hl 0 rfl) ?_
    refine tc_look hC hI hT ⟨Nat.le_of_ble_eq_true rfl, Nat.le_of_ble_eq_true rfl⟩ ⟨Nat.zero_le _, Nat.zero_le _⟩ hl.1 (Nat.le_of_ble_eq_true rfl) dX6_name_10 (fun r10 τ9 H locs hT hI => ?_)
    refine tc_isLetter hC hI hT ⟨Nat.le_of_ble_eq_true rfl, Nat.le_of_ble_eq_true rfl⟩ ⟨Nat.zero_le _, Nat.zero_le _⟩ hl.1 (Nat.le_of_ble_eq_true rfl) dX6_name_13 (fun r12 τ11 H locs hT hI => ?_)
    refine lv_if_eq (tgt := 37) hx hb dX6_name_16 (by decide) (fun hc => ?_) (fun hc => ?_)
    · have hT := hT.1 hc
      refine lv_aload_n hx hb dX6_name_37 rfl (lv_at hl 0 rfl) ?_
      refine lv_iconst (v := 1) hx hb dX6_name_38 (by decide) ?_
      refine lv_aload_n hx hb dX6_name_39 rfl (lv_at hl 0 rfl) ?_
      refine tg_2 hC hI dX6_name_40 ?_
      refine tc_fail hC hI hT ⟨Nat.le_of_ble_eq_true rfl, Nat.le_of_ble_eq_true rfl⟩ ⟨Nat.zero_le _, Nat.zero_le _⟩ hl.1 (Nat.le_of_ble_eq_true rfl) dX6_name_43 (fun τ13 H locs hT hI => ?_)
      refine lv_lconst (v := 0) hx hb dX6_name_46 (by decide) ?_
      exact hret _ _ _ _ _ _ hT hI dX6_name_47
    · have hT := hT.2 hc
      refine lv_aload_n hx hb dX6_name_19 rfl (lv_at hl 0 rfl) ?_
      refine tg_2 hC hI dX6_name_20 ?_
      refine lv_aload_n hx hb dX6_name_23 rfl (lv_at hl 0 rfl) ?_
      refine tg_4 hC hI dX6_name_24 ?_
      refine lv_icmp_eq (tgt := 37) hx hb dX6_name_27 (by decide) (fun hc => ?_) (fun hc => ?_)
      · have hT := hT.1 hc
        refine lv_aload_n hx hb dX6_name_37 rfl (lv_at hl 0 rfl) ?_
        refine lv_iconst (v := 1) hx hb dX6_name_38 (by decide) ?_
        refine lv_aload_n hx hb dX6_name_39 rfl (lv_at hl 0 rfl) ?_
        refine tg_2 hC hI dX6_name_40 ?_
        refine tc_fail hC hI hT ⟨Nat.le_of_ble_eq_true rfl, Nat.le_of_ble_eq_true rfl⟩ ⟨Nat.zero_le _, Nat.zero_le _⟩ hl.1 (Nat.le_of_ble_eq_true rfl) dX6_name_43 (fun τ14 H locs hT hI => ?_)
        refine lv_lconst (v := 0) hx hb dX6_name_46 (by decide) ?_
        exact hret _ _ _ _ _ _ hT hI dX6_name_47
      · have hT := hT.2 hc
        refine lv_aload_n hx hb dX6_name_30 rfl (lv_at hl 0 rfl) ?_
        refine tc_isOwnHere hC hI hT ⟨Nat.le_of_ble_eq_true rfl, Nat.le_of_ble_eq_true rfl⟩ ⟨Nat.zero_le _, Nat.zero_le _⟩ hl.1 (Nat.le_of_ble_eq_true rfl) dX6_name_31 (fun r16 τ15 H locs hT hI => ?_)
        refine lv_if_eq (tgt := 48) hx hb dX6_name_34 (by decide) (fun hc => ?_) (fun hc => ?_)
        · have hT := hT.1 hc
          refine lv_aload_n hx hb dX6_name_48 rfl (lv_at hl 0 rfl) ?_
          refine lv_aload_n hx hb dX6_name_49 rfl (lv_at hl 0 rfl) ?_
          refine tg_2 hC hI dX6_name_50 ?_
          refine tp_38 hC hI hT dX6_name_53 (fun τ17 H locs hT hI => ?_)
          refine lv_lconst (v := 0) hx hb dX6_name_56 (by decide) ?_
          refine lv_lstore_n (lv' := [(1, .long 0), (0, .ref (ad 0))]) hx hb dX6_name_57 rfl hl (Nat.le_of_ble_eq_true rfl) rfl (fun ls hl => ?_)
          obtain ⟨n58, hT⟩ := hT
          exact w_58 n58 0 τ17 _ _ _ hT hI (lv_sub hl [1, 0] rfl)
        · have hT := hT.2 hc
          refine lv_aload_n hx hb dX6_name_37 rfl (lv_at hl 0 rfl) ?_
          refine lv_iconst (v := 1) hx hb dX6_name_38 (by decide) ?_
          refine lv_aload_n hx hb dX6_name_39 rfl (lv_at hl 0 rfl) ?_
          refine tg_2 hC hI dX6_name_40 ?_
          refine tc_fail hC hI hT ⟨Nat.le_of_ble_eq_true rfl, Nat.le_of_ble_eq_true rfl⟩ ⟨Nat.zero_le _, Nat.zero_le _⟩ hl.1 (Nat.le_of_ble_eq_true rfl) dX6_name_43 (fun τ18 H locs hT hI => ?_)
          refine lv_lconst (v := 0) hx hb dX6_name_46 (by decide) ?_
          exact hret _ _ _ _ _ _ hT hI dX6_name_47
  · have hT := hT.2 hc
    refine lv_lconst (v := 0) hx hb dX6_name_7 (by decide) ?_
    exact hret _ _ _ _ _ _ hT hI dX6_name_8
theorem tc_name {p : Program} {l : Launch} {e : Env} {R : Room} {s : State} {m : MethodId} {args : Array Value} {below : List Frame} {meth : Method} {c : Code} {H : Heap} {locs : List Loc} {cells slots : Nat} {Q : State → Prop} {cc : ByteArray} {nL : Nat} {D : va_G} {dA : Nat → ClassId} {ad : Nat → Nat} {τ : Sto} {pc sz : Nat} {ls : Array Slot} {rest : List Value} {H0 : Heap} {K : Int64 → Sto → Prop} (hC : tC p m c cc nL s args D dA ad) (hI : tI D dA ad sz H0 τ H locs) (hT : T_name τ K) (hR : 4 + 1 ≤ R.frames ∧ 8 + (3 + 11) + 76 ≤ R.locals) (hf : cells ≤ R.cells ∧ slots ≤ R.slots) (hsz : ls.size = nL) (hroom : (rest.map fun v => v.category).sum ≤ 8) (hdg : decode cc pc = .ok (.invokevirtual 304, 3)) (kk : ∀ (r : Int64) (τ1 : Sto) (H1 : Heap) (locs1 : List Loc), K r τ1 → tI D dA ad sz H0 τ1 H1 locs1 → W p l e R s m args below meth c H1 locs1 cells slots Q (F0 m (pc + 3) ls (.long r :: rest))) : W p l e R s m args below meth c H locs cells slots Q (F0 m pc ls (.ref (ad 0) :: rest)) :=
  rg_calll (rg_runV hC.1 hC.2.1 hI.1 hI.2.1 tl_0 rfl (met_name l D dA ad hC.2.2 sz τ K hT) (lw_V q2057 q2059 qs70 q170 q2060) 0 (by decide +kernel) ⟨rfl, rfl⟩ hR rfl hsz rfl hroom hf hdg) hI.2.2 (fun r τ1 H1 l1 hk hz hP hS => kk r τ1 H1 l1 hk ⟨hP, hz, hS⟩)
set_option maxHeartbeats 4000000 in
set_option maxRecDepth 100000 in
theorem met_newName (l : Launch) (D : va_G) (dA : Nat → ClassId) (ad : Nat → Nat) (hJ : rgJ twL ad) (sz : Nat) (τ : Sto) (K : Int64 → Sto → Prop) (hT : T_newName τ K) : Met l yX6_newName (ws_ yX6_newName cX6_newName 5 (some .long)) ({ frames := 5, cells := 0, slots := 0, locals := 98 }) (va_Pc [.ref (ad 0)] (rgU D vwCl dA twL ad sz τ)) (va_Ql K (rgU D vwCl dA twL ad sz) (rgAd twL ad)) 0 0 (rgAd twL ad) := by
  refine tw_metl hJ (by decide) rfl (Nat.le_of_ble_eq_true rfl) ?_
  intro p e s m args below meth c Q hC hret hI ls hl
  have hx := hC.1.1
  have hb := hC.1.2.1
  have hl : lv_has ls 5 [(0, .ref (ad 0))] := hl
  have w_15 : ∀ (x1 : Int64) (k7 : Int32 → Sto → Prop), (∀ (x3 : Int32) (τ : Sto) (H : Heap) (locs : List Loc) (ls : Array Slot), k7 x3 τ → tI D dA ad sz s.heap τ H locs → lv_has ls 5 [(0, .ref (ad 0)), (1, .long x1), (3, .int x3)] → W p l e ({ frames := 5, cells := 0, slots := 0, locals := 98 }) s m args below meth c H locs 0 0 Q (F0 m 7 ls [])) → ∀ (x3 : Int32) (n : Nat) (x4 : Int32) (τ : Sto) (H : Heap) (locs : List Loc) (ls : Array Slot), T_newName_15 K k7 x1 x3 n x4 τ → tI D dA ad sz s.heap τ H locs → lv_has ls 5 [(0, .ref (ad 0)), (1, .long x1), (3, .int x3), (4, .int x4)] → W p l e ({ frames := 5, cells := 0, slots := 0, locals := 98 }) s m args below meth c H locs 0 0 Q (F0 m 15 ls []) := by
    intro x1 k7 hk7 x3 n
    induction n with
    | zero => intro x4 τ H locs ls hT; exact hT.elim
    | succ n ih =>
      intro x4 τ H locs ls hT hI hl
      unfold T_newName_15 at hT
      refine lv_iload hx hb dX6_newName_15 (lv_at hl 3 rfl) ?_
      refine lv_aload_n hx hb dX6_newName_17 rfl (lv_at hl 0 rfl) ?_
      refine tg_39 hC hI dX6_newName_18 ?_
      refine lv_iload_n hx hb dX6_newName_21 rfl (lv_at hl 2 rfl) ?_
      refine tw_iald hC hI tl_40 hT dX6_newName_22 (fun hT => ?_)
      refine lv_icmp_ge (tgt := 65) hx hb dX6_newName_23 (by decide) (fun hc => ?_) (fun hc => ?_)
      · have hT := hT.1 hc
        refine lv_iinc (v := x3 + 1) (lv' := [(3, .int (x3 + 1)), (0, .ref (ad 0)), (1, .long x1), (4, .int x4)]) hx hb dX6_newName_65 hl (k := 2) rfl rfl (Nat.le_of_ble_eq_true rfl) rfl (fun ls hl => ?_)
        refine lv_goto (tgt := 7) hx hb dX6_newName_68 (by decide) ?_
        exact hk7 (x3 + 1) τ _ _ _ hT hI (lv_sub hl [1, 2, 0] rfl)
      · have hT := hT.2 hc
        refine lv_aload_n hx hb dX6_newName_26 rfl (lv_at hl 0 rfl) ?_
        refine tg_5 hC hI dX6_newName_27 ?_
        refine lv_if_ne (tgt := 59) hx hb dX6_newName_30 (by decide) (fun hc => ?_) (fun hc => ?_)
        · have hT := hT.1 hc
          refine lv_iinc (v := x4 + 1) (lv' := [(4, .int (x4 + 1)), (0, .ref (ad 0)), (1, .long x1), (3, .int x3)]) hx hb dX6_newName_59 hl (k := 3) rfl rfl (Nat.le_of_ble_eq_true rfl) rfl (fun ls hl => ?_)
          refine lv_goto (tgt := 15) hx hb dX6_newName_62 (by decide) ?_
          exact ih (x4 + 1) τ _ _ _ hT hI (lv_sub hl [1, 2, 3, 0] rfl)
        · have hT := hT.2 hc
          refine lv_aload_n hx hb dX6_newName_33 rfl (lv_at hl 0 rfl) ?_
          refine tg_40 hC hI dX6_newName_34 ?_
          refine lv_bipush (v := 8) hx hb dX6_newName_37 (by decide) ?_
          refine lv_iload_n hx hb dX6_newName_39 rfl (lv_at hl 2 rfl) ?_
          refine lv_imul hx hb dX6_newName_40 ?_
          refine lv_iload hx hb dX6_newName_41 (lv_at hl 3 rfl) ?_
          refine lv_iadd hx hb dX6_newName_43 ?_
          refine tw_lald hC hI tl_41 hT dX6_newName_44 (fun hT => ?_)
          refine lv_lload_n hx hb dX6_newName_45 rfl (lv_at hl 1 rfl) ?_
          refine rl_ne (tgt := 59) hx hb dX6_newName_46 dX6_newName_47 (by decide) (fun hc => ?_) (fun hc => ?_)
          · have hT := hT.1 hc
            refine lv_iinc (v := x4 + 1) (lv' := [(4, .int (x4 + 1)), (0, .ref (ad 0)), (1, .long x1), (3, .int x3)]) hx hb dX6_newName_59 hl (k := 3) rfl rfl (Nat.le_of_ble_eq_true rfl) rfl (fun ls hl => ?_)
            refine lv_goto (tgt := 15) hx hb dX6_newName_62 (by decide) ?_
            exact ih (x4 + 1) τ _ _ _ hT hI (lv_sub hl [1, 2, 3, 0] rfl)
          · have hT := hT.2 hc
            refine lv_aload_n hx hb dX6_newName_50 rfl (lv_at hl 0 rfl) ?_
            refine lv_iconst (v := 3) hx hb dX6_newName_51 (by decide) ?_
            refine lv_aload_n hx hb dX6_newName_52 rfl (lv_at hl 0 rfl) ?_
            refine tg_38 hC hI dX6_newName_53 ?_
            refine tc_fail hC hI hT ⟨Nat.le_of_ble_eq_true rfl, Nat.le_of_ble_eq_true rfl⟩ ⟨Nat.zero_le _, Nat.zero_le _⟩ hl.1 (Nat.le_of_ble_eq_true rfl) dX6_newName_56 (fun τ1 H locs hT hI => ?_)
            refine lv_iinc (v := x4 + 1) (lv' := [(4, .int (x4 + 1)), (0, .ref (ad 0)), (1, .long x1), (3, .int x3)]) hx hb dX6_newName_59 hl (k := 3) rfl rfl (Nat.le_of_ble_eq_true rfl) rfl (fun ls hl => ?_)
            refine lv_goto (tgt := 15) hx hb dX6_newName_62 (by decide) ?_
            exact ih (x4 + 1) τ1 _ _ _ hT hI (lv_sub hl [1, 2, 3, 0] rfl)
  have w_7 : ∀ (x1 : Int64) (n : Nat) (x3 : Int32) (τ : Sto) (H : Heap) (locs : List Loc) (ls : Array Slot), T_newName_7 K x1 n x3 τ → tI D dA ad sz s.heap τ H locs → lv_has ls 5 [(0, .ref (ad 0)), (1, .long x1), (3, .int x3)] → W p l e ({ frames := 5, cells := 0, slots := 0, locals := 98 }) s m args below meth c H locs 0 0 Q (F0 m 7 ls []) := by
    intro x1 n
    induction n with
    | zero => intro x3 τ H locs ls hT; exact hT.elim
    | succ n ih =>
      intro x3 τ H locs ls hT hI hl
      unfold T_newName_7 at hT
      refine lv_iload_n hx hb dX6_newName_7 rfl (lv_at hl 2 rfl) ?_
      refine lv_iconst (v := 3) hx hb dX6_newName_8 (by decide) ?_
      refine lv_icmp_ge (tgt := 71) hx hb dX6_newName_9 (by decide) (fun hc => ?_) (fun hc => ?_)
      · have hT := hT.1 hc
        refine lv_lload_n hx hb dX6_newName_71 rfl (lv_at hl 1 rfl) ?_
        exact hret _ _ _ _ _ _ hT hI dX6_newName_72
      · have hT := hT.2 hc
        refine lv_iconst (v := 0) hx hb dX6_newName_12 (by decide) ?_
        refine lv_istore (lv' := [(4, .int 0), (0, .ref (ad 0)), (1, .long x1), (3, .int x3)]) hx hb dX6_newName_13 hl (Nat.le_of_ble_eq_true rfl) rfl (fun ls hl => ?_)
        obtain ⟨n15, hT⟩ := hT
        exact w_15 x1 (T_newName_7 K x1 n) (ih) x3 n15 0 τ _ _ _ hT hI (lv_sub hl [1, 2, 3, 0] rfl)
  unfold T_newName at hT
  refine lv_aload_n hx hb dX6_newName_0 rfl (lv_at hl 0 rfl) ?_
  refine tc_name hC hI hT ⟨Nat.le_of_ble_eq_true rfl, Nat.le_of_ble_eq_true rfl⟩ ⟨Nat.zero_le _, Nat.zero_le _⟩ hl.1 (Nat.le_of_ble_eq_true rfl) dX6_newName_1 (fun r3 τ2 H locs hT hI => ?_)
  refine lv_lstore_n (lv' := [(1, .long r3), (0, .ref (ad 0))]) hx hb dX6_newName_4 rfl hl (Nat.le_of_ble_eq_true rfl) rfl (fun ls hl => ?_)
  refine lv_iconst (v := 0) hx hb dX6_newName_5 (by decide) ?_
  refine lv_istore_n (lv' := [(3, .int 0), (1, .long r3), (0, .ref (ad 0))]) hx hb dX6_newName_6 rfl hl (Nat.le_of_ble_eq_true rfl) rfl (fun ls hl => ?_)
  obtain ⟨n7, hT⟩ := hT
  exact w_7 r3 n7 0 τ2 _ _ _ hT hI (lv_sub hl [2, 1, 0] rfl)
theorem tc_newName {p : Program} {l : Launch} {e : Env} {R : Room} {s : State} {m : MethodId} {args : Array Value} {below : List Frame} {meth : Method} {c : Code} {H : Heap} {locs : List Loc} {cells slots : Nat} {Q : State → Prop} {cc : ByteArray} {nL : Nat} {D : va_G} {dA : Nat → ClassId} {ad : Nat → Nat} {τ : Sto} {pc sz : Nat} {ls : Array Slot} {rest : List Value} {H0 : Heap} {K : Int64 → Sto → Prop} (hC : tC p m c cc nL s args D dA ad) (hI : tI D dA ad sz H0 τ H locs) (hT : T_newName τ K) (hR : 5 + 1 ≤ R.frames ∧ 8 + (5 + 11) + 98 ≤ R.locals) (hf : cells ≤ R.cells ∧ slots ≤ R.slots) (hsz : ls.size = nL) (hroom : (rest.map fun v => v.category).sum ≤ 8) (hdg : decode cc pc = .ok (.invokevirtual 312, 3)) (kk : ∀ (r : Int64) (τ1 : Sto) (H1 : Heap) (locs1 : List Loc), K r τ1 → tI D dA ad sz H0 τ1 H1 locs1 → W p l e R s m args below meth c H1 locs1 cells slots Q (F0 m (pc + 3) ls (.long r :: rest))) : W p l e R s m args below meth c H locs cells slots Q (F0 m pc ls (.ref (ad 0) :: rest)) :=
  rg_calll (rg_runV hC.1 hC.2.1 hI.1 hI.2.1 tl_0 rfl (met_newName l D dA ad hC.2.2 sz τ K hT) (lw_V q2053 q2055 qs69 q170 q2056) 0 (by decide +kernel) ⟨rfl, rfl⟩ hR rfl hsz rfl hroom hf hdg) hI.2.2 (fun r τ1 H1 l1 hk hz hP hS => kk r τ1 H1 l1 hk ⟨hP, hz, hS⟩)
set_option maxHeartbeats 4000000 in
set_option maxRecDepth 100000 in
theorem met_asks (l : Launch) (D : va_G) (dA : Nat → ClassId) (ad : Nat → Nat) (hJ : rgJ twL ad) (sz : Nat) (τ : Sto) (x1 : Nat) (K : Sto → Prop) (hT : T_asks τ x1 K) : Met l yX6_asks (ws_ yX6_asks cX6_asks 2 (none)) ({ frames := 4, cells := 0, slots := 0, locals := 76 }) (va_Pc [.ref (ad 0), .ref (ad x1)] (rgU D vwCl dA twL ad sz τ)) (va_Qv K (rgU D vwCl dA twL ad sz) (rgAd twL ad)) 0 0 (rgAd twL ad) := by
  refine tw_metv hJ (by decide) rfl (Nat.le_of_ble_eq_true rfl) ?_
  intro p e s m args below meth c Q hC hret hI ls hl
  have hx := hC.1.1
  have hb := hC.1.2.1
  have hl : lv_has ls 2 [(0, .ref (ad 0)), (1, .ref (ad x1))] := hl
  unfold T_asks at hT
  refine lv_aload_n hx hb dX6_asks_0 rfl (lv_at hl 0 rfl) ?_
  refine tg_5 hC hI dX6_asks_1 ?_
  refine lv_if_ne (tgt := 24) hx hb dX6_asks_4 (by decide) (fun hc => ?_) (fun hc => ?_)
  · have hT := hT.1 hc
    exact hret _ _ _ _ _ hT hI dX6_asks_24
  · have hT := hT.2 hc
    refine lv_aload_n hx hb dX6_asks_7 rfl (lv_at hl 0 rfl) ?_
    refine lv_aload_n hx hb dX6_asks_8 rfl (lv_at hl 1 rfl) ?_
    refine tc_eats hC hI hT ⟨Nat.le_of_ble_eq_true rfl, Nat.le_of_ble_eq_true rfl⟩ ⟨Nat.zero_le _, Nat.zero_le _⟩ hl.1 (Nat.le_of_ble_eq_true rfl) dX6_asks_9 (fun r2 τ1 H locs hT hI => ?_)
    refine lv_if_ne (tgt := 24) hx hb dX6_asks_12 (by decide) (fun hc => ?_) (fun hc => ?_)
    · have hT := hT.1 hc
      exact hret _ _ _ _ _ hT hI dX6_asks_24
    · have hT := hT.2 hc
      refine lv_aload_n hx hb dX6_asks_15 rfl (lv_at hl 0 rfl) ?_
      refine lv_iconst (v := 1) hx hb dX6_asks_16 (by decide) ?_
      refine lv_aload_n hx hb dX6_asks_17 rfl (lv_at hl 0 rfl) ?_
      refine tg_2 hC hI dX6_asks_18 ?_
      refine tc_fail hC hI hT ⟨Nat.le_of_ble_eq_true rfl, Nat.le_of_ble_eq_true rfl⟩ ⟨Nat.zero_le _, Nat.zero_le _⟩ hl.1 (Nat.le_of_ble_eq_true rfl) dX6_asks_21 (fun τ3 H locs hT hI => ?_)
      exact hret _ _ _ _ _ hT hI dX6_asks_24
theorem tc_asks {p : Program} {l : Launch} {e : Env} {R : Room} {s : State} {m : MethodId} {args : Array Value} {below : List Frame} {meth : Method} {c : Code} {H : Heap} {locs : List Loc} {cells slots : Nat} {Q : State → Prop} {cc : ByteArray} {nL : Nat} {D : va_G} {dA : Nat → ClassId} {ad : Nat → Nat} {τ : Sto} {pc sz : Nat} {ls : Array Slot} {rest : List Value} {H0 : Heap} {x1 : Nat} {K : Sto → Prop} (hC : tC p m c cc nL s args D dA ad) (hI : tI D dA ad sz H0 τ H locs) (hT : T_asks τ x1 K) (hR : 4 + 1 ≤ R.frames ∧ 8 + (2 + 11) + 76 ≤ R.locals) (hf : cells ≤ R.cells ∧ slots ≤ R.slots) (hsz : ls.size = nL) (hroom : (rest.map fun v => v.category).sum ≤ 8) (hdg : decode cc pc = .ok (.invokevirtual 315, 3)) (kk : ∀ (τ1 : Sto) (H1 : Heap) (locs1 : List Loc), K τ1 → tI D dA ad sz H0 τ1 H1 locs1 → W p l e R s m args below meth c H1 locs1 cells slots Q (F0 m (pc + 3) ls (rest))) : W p l e R s m args below meth c H locs cells slots Q (F0 m pc ls (.ref (ad x1) :: .ref (ad 0) :: rest)) :=
  rg_callv (rg_runV hC.1 hC.2.1 hI.1 hI.2.1 tl_0 rfl (met_asks l D dA ad hC.2.2 sz τ x1 K hT) (lw_V q2067 q2069 qs72 q170 q2070) 1 (by decide +kernel) ⟨rfl, rfl⟩ hR rfl hsz rfl hroom hf hdg) hI.2.2 (fun τ1 H1 l1 hk hz hP hS => kk τ1 H1 l1 hk ⟨hP, hz, hS⟩)
set_option maxHeartbeats 4000000 in
set_option maxRecDepth 100000 in
theorem met_isDigit (l : Launch) (D : va_G) (dA : Nat → ClassId) (ad : Nat → Nat) (hJ : rgJ twL ad) (sz : Nat) (τ : Sto) (x0 : Int32) (K : Int32 → Sto → Prop) (hT : T_isDigit τ x0 K) : Met l yX6_isDigit (ws_ yX6_isDigit cX6_isDigit 1 (some .boolean)) ({ frames := 1, cells := 0, slots := 0, locals := 12 }) (va_Pc [.int x0] (rgU D vwCl dA twL ad sz τ)) (va_Qi K (rgU D vwCl dA twL ad sz) (rgAd twL ad)) 0 0 (rgAd twL ad) := by
  refine tw_metz hJ (by decide) rfl (Nat.le_of_ble_eq_true rfl) ?_
  intro p e s m args below meth c Q hC hret hI ls hl
  have hx := hC.1.1
  have hb := hC.1.2.1
  have hl : lv_has ls 1 [(0, .int x0)] := hl
  unfold T_isDigit at hT
  refine lv_iload_n hx hb dX6_isDigit_0 rfl (lv_at hl 0 rfl) ?_
  refine lv_bipush (v := 48) hx hb dX6_isDigit_1 (by decide) ?_
  refine lv_icmp_lt (tgt := 16) hx hb dX6_isDigit_3 (by decide) (fun hc => ?_) (fun hc => ?_)
  · have hT := hT.1 hc
    refine lv_iconst (v := 0) hx hb dX6_isDigit_16 (by decide) ?_
    exact hret _ _ _ _ _ _ (by decide) hT hI dX6_isDigit_17
  · have hT := hT.2 hc
    refine lv_iload_n hx hb dX6_isDigit_6 rfl (lv_at hl 0 rfl) ?_
    refine lv_bipush (v := 57) hx hb dX6_isDigit_7 (by decide) ?_
    refine lv_icmp_gt (tgt := 16) hx hb dX6_isDigit_9 (by decide) (fun hc => ?_) (fun hc => ?_)
    · have hT := hT.1 hc
      refine lv_iconst (v := 0) hx hb dX6_isDigit_16 (by decide) ?_
      exact hret _ _ _ _ _ _ (by decide) hT hI dX6_isDigit_17
    · have hT := hT.2 hc
      refine lv_iconst (v := 1) hx hb dX6_isDigit_12 (by decide) ?_
      refine lv_goto (tgt := 17) hx hb dX6_isDigit_13 (by decide) ?_
      exact hret _ _ _ _ _ _ (by decide) hT hI dX6_isDigit_17
theorem tc_isDigit {p : Program} {l : Launch} {e : Env} {R : Room} {s : State} {m : MethodId} {args : Array Value} {below : List Frame} {meth : Method} {c : Code} {H : Heap} {locs : List Loc} {cells slots : Nat} {Q : State → Prop} {cc : ByteArray} {nL : Nat} {D : va_G} {dA : Nat → ClassId} {ad : Nat → Nat} {τ : Sto} {pc sz : Nat} {ls : Array Slot} {rest : List Value} {H0 : Heap} {x0 : Int32} {K : Int32 → Sto → Prop} (hC : tC p m c cc nL s args D dA ad) (hI : tI D dA ad sz H0 τ H locs) (hT : T_isDigit τ x0 K) (hR : 1 + 1 ≤ R.frames ∧ 8 + (1 + 11) + 12 ≤ R.locals) (hf : cells ≤ R.cells ∧ slots ≤ R.slots) (hsz : ls.size = nL) (hroom : (rest.map fun v => v.category).sum ≤ 8) (hdg : decode cc pc = .ok (.invokestatic 283, 3)) (kk : ∀ (r : Int32) (τ1 : Sto) (H1 : Heap) (locs1 : List Loc), K r τ1 → tI D dA ad sz H0 τ1 H1 locs1 → W p l e R s m args below meth c H1 locs1 cells slots Q (F0 m (pc + 3) ls (.int r :: rest))) : W p l e R s m args below meth c H locs cells slots Q (F0 m pc ls (.int x0 :: rest)) :=
  rg_calli (rg_runS hC.1 hC.2.1 hI.1 hI.2.1 (met_isDigit l D dA ad hC.2.2 sz τ x0 K hT) (lw_S q2075 q2076 q170 q2077) 1 (by decide +kernel) ⟨rfl, rfl⟩ hR rfl hsz rfl hroom hf hdg) hI.2.2 (fun r τ1 H1 l1 hk hz hP hS => kk r τ1 H1 l1 hk ⟨hP, hz, hS⟩)
set_option maxHeartbeats 4000000 in
set_option maxRecDepth 100000 in
theorem met_isIn (l : Launch) (D : va_G) (dA : Nat → ClassId) (ad : Nat → Nat) (hJ : rgJ twL ad) (sz : Nat) (τ : Sto) (x0 : Int64) (x2 : Int64) (x4 : Int64) (K : Int32 → Sto → Prop) (hT : T_isIn τ x0 x2 x4 K) : Met l yX6_isIn (ws_ yX6_isIn cX6_isIn 6 (some .boolean)) ({ frames := 1, cells := 0, slots := 0, locals := 12 }) (va_Pc [.long x0, .long x2, .long x4] (rgU D vwCl dA twL ad sz τ)) (va_Qi K (rgU D vwCl dA twL ad sz) (rgAd twL ad)) 0 0 (rgAd twL ad) := by
  refine tw_metz hJ (by decide) rfl (Nat.le_of_ble_eq_true rfl) ?_
  intro p e s m args below meth c Q hC hret hI ls hl
  have hx := hC.1.1
  have hb := hC.1.2.1
  have hl : lv_has ls 6 [(0, .long x0), (2, .long x2), (4, .long x4)] := hl
  unfold T_isIn at hT
  refine lv_lload_n hx hb dX6_isIn_0 rfl (lv_at hl 0 rfl) ?_
  refine lv_lload_n hx hb dX6_isIn_1 rfl (lv_at hl 1 rfl) ?_
  refine rl_lt (tgt := 17) hx hb dX6_isIn_2 dX6_isIn_3 (by decide) (fun hc => ?_) (fun hc => ?_)
  · have hT := hT.1 hc
    refine lv_iconst (v := 0) hx hb dX6_isIn_17 (by decide) ?_
    exact hret _ _ _ _ _ _ (by decide) hT hI dX6_isIn_18
  · have hT := hT.2 hc
    refine lv_lload_n hx hb dX6_isIn_6 rfl (lv_at hl 0 rfl) ?_
    refine lv_lload hx hb dX6_isIn_7 (lv_at hl 2 rfl) ?_
    refine rl_gt (tgt := 17) hx hb dX6_isIn_9 dX6_isIn_10 (by decide) (fun hc => ?_) (fun hc => ?_)
    · have hT := hT.1 hc
      refine lv_iconst (v := 0) hx hb dX6_isIn_17 (by decide) ?_
      exact hret _ _ _ _ _ _ (by decide) hT hI dX6_isIn_18
    · have hT := hT.2 hc
      refine lv_iconst (v := 1) hx hb dX6_isIn_13 (by decide) ?_
      refine lv_goto (tgt := 18) hx hb dX6_isIn_14 (by decide) ?_
      exact hret _ _ _ _ _ _ (by decide) hT hI dX6_isIn_18
theorem tc_isIn {p : Program} {l : Launch} {e : Env} {R : Room} {s : State} {m : MethodId} {args : Array Value} {below : List Frame} {meth : Method} {c : Code} {H : Heap} {locs : List Loc} {cells slots : Nat} {Q : State → Prop} {cc : ByteArray} {nL : Nat} {D : va_G} {dA : Nat → ClassId} {ad : Nat → Nat} {τ : Sto} {pc sz : Nat} {ls : Array Slot} {rest : List Value} {H0 : Heap} {x0 : Int64} {x2 : Int64} {x4 : Int64} {K : Int32 → Sto → Prop} (hC : tC p m c cc nL s args D dA ad) (hI : tI D dA ad sz H0 τ H locs) (hT : T_isIn τ x0 x2 x4 K) (hR : 1 + 1 ≤ R.frames ∧ 8 + (6 + 11) + 12 ≤ R.locals) (hf : cells ≤ R.cells ∧ slots ≤ R.slots) (hsz : ls.size = nL) (hroom : (rest.map fun v => v.category).sum ≤ 8) (hdg : decode cc pc = .ok (.invokestatic 286, 3)) (kk : ∀ (r : Int32) (τ1 : Sto) (H1 : Heap) (locs1 : List Loc), K r τ1 → tI D dA ad sz H0 τ1 H1 locs1 → W p l e R s m args below meth c H1 locs1 cells slots Q (F0 m (pc + 3) ls (.int r :: rest))) : W p l e R s m args below meth c H locs cells slots Q (F0 m pc ls (.long x4 :: .long x2 :: .long x0 :: rest)) :=
  rg_calli (rg_runS hC.1 hC.2.1 hI.1 hI.2.1 (met_isIn l D dA ad hC.2.2 sz τ x0 x2 x4 K hT) (lw_S q2078 q2079 q170 q2080) 3 (by decide +kernel) ⟨rfl, rfl⟩ hR rfl hsz rfl hroom hf hdg) hI.2.2 (fun r τ1 H1 l1 hk hz hP hS => kk r τ1 H1 l1 hk ⟨hP, hz, hS⟩)
set_option maxHeartbeats 4000000 in
set_option maxRecDepth 100000 in
theorem met_number (l : Launch) (D : va_G) (dA : Nat → ClassId) (ad : Nat → Nat) (hJ : rgJ twL ad) (sz : Nat) (τ : Sto) (x1 : Int32) (x2 : Int32) (K : Int32 → Sto → Prop) (hT : T_number τ x1 x2 K) : Met l yX6_number (ws_ yX6_number cX6_number 5 (some .int)) ({ frames := 2, cells := 0, slots := 0, locals := 37 }) (va_Pc [.ref (ad 0), .int x1, .int x2] (rgU D vwCl dA twL ad sz τ)) (va_Qi K (rgU D vwCl dA twL ad sz) (rgAd twL ad)) 0 0 (rgAd twL ad) := by
  refine tw_meti hJ (by decide) rfl (Nat.le_of_ble_eq_true rfl) ?_
  intro p e s m args below meth c Q hC hret hI ls hl
  have hx := hC.1.1
  have hb := hC.1.2.1
  have hl : lv_has ls 5 [(0, .ref (ad 0)), (1, .int x1), (2, .int x2)] := hl
  have w_129 : ∀ (x1 : Int32) (x2 : Int32) (x3 : Int32) (x4 : Int32) (τ : Sto) (H : Heap) (locs : List Loc) (ls : Array Slot), T_number_129 K x1 x2 x3 x4 τ → tI D dA ad sz s.heap τ H locs → lv_has ls 5 [(0, .ref (ad 0)), (1, .int x1), (2, .int x2), (3, .int x3), (4, .int x4)] → W p l e ({ frames := 2, cells := 0, slots := 0, locals := 37 }) s m args below meth c H locs 0 0 Q (F0 m 129 ls []) := by
    intro x1 x2 x3 x4 τ H locs ls hT hI hl
    unfold T_number_129 at hT
    refine lv_aload_n hx hb dX6_number_129 rfl (lv_at hl 0 rfl) ?_
    refine lv_aload_n hx hb dX6_number_130 rfl (lv_at hl 0 rfl) ?_
    refine tg_2 hC hI dX6_number_131 ?_
    refine tp_4 hC hI hT dX6_number_134 (fun τ1 H locs hT hI => ?_)
    refine lv_iload hx hb dX6_number_137 (lv_at hl 4 rfl) ?_
    refine lv_i2l hx hb dX6_number_139 rfl ?_
    refine lv_iload_n hx hb dX6_number_140 rfl (lv_at hl 1 rfl) ?_
    refine lv_i2l hx hb dX6_number_141 rfl ?_
    refine lv_iload_n hx hb dX6_number_142 rfl (lv_at hl 2 rfl) ?_
    refine lv_i2l hx hb dX6_number_143 rfl ?_
    refine tc_isIn hC hI hT ⟨Nat.le_of_ble_eq_true rfl, Nat.le_of_ble_eq_true rfl⟩ ⟨Nat.zero_le _, Nat.zero_le _⟩ hl.1 (Nat.le_of_ble_eq_true rfl) dX6_number_144 (fun r3 τ2 H locs hT hI => ?_)
    refine lv_if_ne (tgt := 156) hx hb dX6_number_147 (by decide) (fun hc => ?_) (fun hc => ?_)
    · have hT := hT.1 hc
      refine lv_iload hx hb dX6_number_156 (lv_at hl 4 rfl) ?_
      exact hret _ _ _ _ _ _ hT hI dX6_number_158
    · have hT := hT.2 hc
      refine lv_aload_n hx hb dX6_number_150 rfl (lv_at hl 0 rfl) ?_
      refine lv_iconst (v := 2) hx hb dX6_number_151 (by decide) ?_
      refine lv_iload_n hx hb dX6_number_152 rfl (lv_at hl 3 rfl) ?_
      refine tc_fail hC hI hT ⟨Nat.le_of_ble_eq_true rfl, Nat.le_of_ble_eq_true rfl⟩ ⟨Nat.zero_le _, Nat.zero_le _⟩ hl.1 (Nat.le_of_ble_eq_true rfl) dX6_number_153 (fun τ4 H locs hT hI => ?_)
      refine lv_iload hx hb dX6_number_156 (lv_at hl 4 rfl) ?_
      exact hret _ _ _ _ _ _ hT hI dX6_number_158
  have w_49 : ∀ (x1 : Int32) (x2 : Int32) (x3 : Int32) (n : Nat) (x4 : Int32) (τ : Sto) (H : Heap) (locs : List Loc) (ls : Array Slot), T_number_49 K x1 x2 x3 n x4 τ → tI D dA ad sz s.heap τ H locs → lv_has ls 5 [(0, .ref (ad 0)), (1, .int x1), (2, .int x2), (3, .int x3), (4, .int x4)] → W p l e ({ frames := 2, cells := 0, slots := 0, locals := 37 }) s m args below meth c H locs 0 0 Q (F0 m 49 ls []) := by
    intro x1 x2 x3 n
    induction n with
    | zero => intro x4 τ H locs ls hT; exact hT.elim
    | succ n ih =>
      intro x4 τ H locs ls hT hI hl
      unfold T_number_49 at hT
      refine lv_aload_n hx hb dX6_number_49 rfl (lv_at hl 0 rfl) ?_
      refine tg_2 hC hI dX6_number_50 ?_
      refine lv_aload_n hx hb dX6_number_53 rfl (lv_at hl 0 rfl) ?_
      refine tg_3 hC hI dX6_number_54 ?_
      refine lv_icmp_ge (tgt := 129) hx hb dX6_number_57 (by decide) (fun hc => ?_) (fun hc => ?_)
      · have hT := hT.1 hc
        exact w_129 x1 x2 x3 x4 τ _ _ _ hT hI (lv_sub hl [0, 1, 2, 3, 4] rfl)
      · have hT := hT.2 hc
        refine lv_aload_n hx hb dX6_number_60 rfl (lv_at hl 0 rfl) ?_
        refine tg_0 hC hI dX6_number_61 ?_
        refine lv_aload_n hx hb dX6_number_64 rfl (lv_at hl 0 rfl) ?_
        refine tg_2 hC hI dX6_number_65 ?_
        refine tw_iald hC hI tl_1 hT dX6_number_68 (fun hT => ?_)
        refine tc_isDigit hC hI hT ⟨Nat.le_of_ble_eq_true rfl, Nat.le_of_ble_eq_true rfl⟩ ⟨Nat.zero_le _, Nat.zero_le _⟩ hl.1 (Nat.le_of_ble_eq_true rfl) dX6_number_69 (fun r6 τ5 H locs hT hI => ?_)
        refine lv_if_eq (tgt := 129) hx hb dX6_number_72 (by decide) (fun hc => ?_) (fun hc => ?_)
        · have hT := hT.1 hc
          exact w_129 x1 x2 x3 x4 τ5 _ _ _ hT hI (lv_sub hl [0, 1, 2, 3, 4] rfl)
        · have hT := hT.2 hc
          refine lv_aload_n hx hb dX6_number_75 rfl (lv_at hl 0 rfl) ?_
          refine tg_2 hC hI dX6_number_76 ?_
          refine lv_iload_n hx hb dX6_number_79 rfl (lv_at hl 3 rfl) ?_
          refine lv_isub hx hb dX6_number_80 ?_
          refine lv_iconst (v := 4) hx hb dX6_number_81 (by decide) ?_
          refine lv_icmp_ne (tgt := 96) hx hb dX6_number_82 (by decide) (fun hc => ?_) (fun hc => ?_)
          · have hT := hT.1 hc
            refine lv_bipush (v := 10) hx hb dX6_number_96 (by decide) ?_
            refine lv_iload hx hb dX6_number_98 (lv_at hl 4 rfl) ?_
            refine lv_imul hx hb dX6_number_100 ?_
            refine lv_aload_n hx hb dX6_number_101 rfl (lv_at hl 0 rfl) ?_
            refine tg_0 hC hI dX6_number_102 ?_
            refine lv_aload_n hx hb dX6_number_105 rfl (lv_at hl 0 rfl) ?_
            refine tg_2 hC hI dX6_number_106 ?_
            refine tw_iald hC hI tl_1 hT dX6_number_109 (fun hT => ?_)
            refine lv_iadd hx hb dX6_number_110 ?_
            refine lv_bipush (v := 48) hx hb dX6_number_111 (by decide) ?_
            refine lv_isub hx hb dX6_number_113 ?_
            refine lv_topi (fun y7 h8 => ?_)
            have hT := hT y7 h8
            refine lv_istore (lv' := [(4, .int y7), (0, .ref (ad 0)), (1, .int x1), (2, .int x2), (3, .int x3)]) hx hb dX6_number_114 hl (Nat.le_of_ble_eq_true rfl) rfl (fun ls hl => ?_)
            refine lv_aload_n hx hb dX6_number_116 rfl (lv_at hl 1 rfl) ?_
            refine lv_dup hx hb dX6_number_117 rfl ?_
            refine tg_2 hC hI dX6_number_118 ?_
            refine lv_iconst (v := 1) hx hb dX6_number_121 (by decide) ?_
            refine lv_iadd hx hb dX6_number_122 ?_
            refine tp_2 hC hI hT dX6_number_123 (fun τ9 H locs hT hI => ?_)
            refine lv_goto (tgt := 49) hx hb dX6_number_126 (by decide) ?_
            exact ih y7 τ9 _ _ _ hT hI (lv_sub hl [1, 2, 3, 4, 0] rfl)
          · have hT := hT.2 hc
            refine lv_aload_n hx hb dX6_number_85 rfl (lv_at hl 0 rfl) ?_
            refine lv_iconst (v := 1) hx hb dX6_number_86 (by decide) ?_
            refine lv_aload_n hx hb dX6_number_87 rfl (lv_at hl 0 rfl) ?_
            refine tg_2 hC hI dX6_number_88 ?_
            refine tc_fail hC hI hT ⟨Nat.le_of_ble_eq_true rfl, Nat.le_of_ble_eq_true rfl⟩ ⟨Nat.zero_le _, Nat.zero_le _⟩ hl.1 (Nat.le_of_ble_eq_true rfl) dX6_number_91 (fun τ10 H locs hT hI => ?_)
            refine lv_iconst (v := 0) hx hb dX6_number_94 (by decide) ?_
            exact hret _ _ _ _ _ _ hT hI dX6_number_95
  unfold T_number at hT
  refine lv_aload_n hx hb dX6_number_0 rfl (lv_at hl 0 rfl) ?_
  refine tg_5 hC hI dX6_number_1 ?_
  refine lv_if_eq (tgt := 9) hx hb dX6_number_4 (by decide) (fun hc => ?_) (fun hc => ?_)
  · have hT := hT.1 hc
    refine lv_aload_n hx hb dX6_number_9 rfl (lv_at hl 0 rfl) ?_
    refine tc_look hC hI hT ⟨Nat.le_of_ble_eq_true rfl, Nat.le_of_ble_eq_true rfl⟩ ⟨Nat.zero_le _, Nat.zero_le _⟩ hl.1 (Nat.le_of_ble_eq_true rfl) dX6_number_10 (fun r12 τ11 H locs hT hI => ?_)
    refine tc_isDigit hC hI hT ⟨Nat.le_of_ble_eq_true rfl, Nat.le_of_ble_eq_true rfl⟩ ⟨Nat.zero_le _, Nat.zero_le _⟩ hl.1 (Nat.le_of_ble_eq_true rfl) dX6_number_13 (fun r14 τ13 H locs hT hI => ?_)
    refine lv_if_eq (tgt := 30) hx hb dX6_number_16 (by decide) (fun hc => ?_) (fun hc => ?_)
    · have hT := hT.1 hc
      refine lv_aload_n hx hb dX6_number_30 rfl (lv_at hl 0 rfl) ?_
      refine lv_iconst (v := 1) hx hb dX6_number_31 (by decide) ?_
      refine lv_aload_n hx hb dX6_number_32 rfl (lv_at hl 0 rfl) ?_
      refine tg_2 hC hI dX6_number_33 ?_
      refine tc_fail hC hI hT ⟨Nat.le_of_ble_eq_true rfl, Nat.le_of_ble_eq_true rfl⟩ ⟨Nat.zero_le _, Nat.zero_le _⟩ hl.1 (Nat.le_of_ble_eq_true rfl) dX6_number_36 (fun τ15 H locs hT hI => ?_)
      refine lv_iconst (v := 0) hx hb dX6_number_39 (by decide) ?_
      exact hret _ _ _ _ _ _ hT hI dX6_number_40
    · have hT := hT.2 hc
      refine lv_aload_n hx hb dX6_number_19 rfl (lv_at hl 0 rfl) ?_
      refine tg_2 hC hI dX6_number_20 ?_
      refine lv_aload_n hx hb dX6_number_23 rfl (lv_at hl 0 rfl) ?_
      refine tg_4 hC hI dX6_number_24 ?_
      refine lv_icmp_ne (tgt := 41) hx hb dX6_number_27 (by decide) (fun hc => ?_) (fun hc => ?_)
      · have hT := hT.1 hc
        refine lv_aload_n hx hb dX6_number_41 rfl (lv_at hl 0 rfl) ?_
        refine tg_2 hC hI dX6_number_42 ?_
        refine lv_istore_n (lv' := [(3, .int (τ13.1 0 2)), (0, .ref (ad 0)), (1, .int x1), (2, .int x2)]) hx hb dX6_number_45 rfl hl (Nat.le_of_ble_eq_true rfl) rfl (fun ls hl => ?_)
        refine lv_iconst (v := 0) hx hb dX6_number_46 (by decide) ?_
        refine lv_istore (lv' := [(4, .int 0), (3, .int (τ13.1 0 2)), (0, .ref (ad 0)), (1, .int x1), (2, .int x2)]) hx hb dX6_number_47 hl (Nat.le_of_ble_eq_true rfl) rfl (fun ls hl => ?_)
        obtain ⟨n49, hT⟩ := hT
        exact w_49 x1 x2 (τ13.1 0 2) n49 0 τ13 _ _ _ hT hI (lv_sub hl [2, 3, 4, 1, 0] rfl)
      · have hT := hT.2 hc
        refine lv_aload_n hx hb dX6_number_30 rfl (lv_at hl 0 rfl) ?_
        refine lv_iconst (v := 1) hx hb dX6_number_31 (by decide) ?_
        refine lv_aload_n hx hb dX6_number_32 rfl (lv_at hl 0 rfl) ?_
        refine tg_2 hC hI dX6_number_33 ?_
        refine tc_fail hC hI hT ⟨Nat.le_of_ble_eq_true rfl, Nat.le_of_ble_eq_true rfl⟩ ⟨Nat.zero_le _, Nat.zero_le _⟩ hl.1 (Nat.le_of_ble_eq_true rfl) dX6_number_36 (fun τ16 H locs hT hI => ?_)
        refine lv_iconst (v := 0) hx hb dX6_number_39 (by decide) ?_
        exact hret _ _ _ _ _ _ hT hI dX6_number_40
  · have hT := hT.2 hc
    refine lv_iconst (v := 0) hx hb dX6_number_7 (by decide) ?_
    exact hret _ _ _ _ _ _ hT hI dX6_number_8
theorem tc_number {p : Program} {l : Launch} {e : Env} {R : Room} {s : State} {m : MethodId} {args : Array Value} {below : List Frame} {meth : Method} {c : Code} {H : Heap} {locs : List Loc} {cells slots : Nat} {Q : State → Prop} {cc : ByteArray} {nL : Nat} {D : va_G} {dA : Nat → ClassId} {ad : Nat → Nat} {τ : Sto} {pc sz : Nat} {ls : Array Slot} {rest : List Value} {H0 : Heap} {x1 : Int32} {x2 : Int32} {K : Int32 → Sto → Prop} (hC : tC p m c cc nL s args D dA ad) (hI : tI D dA ad sz H0 τ H locs) (hT : T_number τ x1 x2 K) (hR : 2 + 1 ≤ R.frames ∧ 8 + (5 + 11) + 37 ≤ R.locals) (hf : cells ≤ R.cells ∧ slots ≤ R.slots) (hsz : ls.size = nL) (hroom : (rest.map fun v => v.category).sum ≤ 8) (hdg : decode cc pc = .ok (.invokevirtual 319, 3)) (kk : ∀ (r : Int32) (τ1 : Sto) (H1 : Heap) (locs1 : List Loc), K r τ1 → tI D dA ad sz H0 τ1 H1 locs1 → W p l e R s m args below meth c H1 locs1 cells slots Q (F0 m (pc + 3) ls (.int r :: rest))) : W p l e R s m args below meth c H locs cells slots Q (F0 m pc ls (.int x2 :: .int x1 :: .ref (ad 0) :: rest)) :=
  rg_calli (rg_runV hC.1 hC.2.1 hI.1 hI.2.1 tl_0 rfl (met_number l D dA ad hC.2.2 sz τ x1 x2 K hT) (lw_V q2071 q2073 qs73 q170 q2074) 2 (by decide +kernel) ⟨rfl, rfl⟩ hR rfl hsz rfl hroom hf hdg) hI.2.2 (fun r τ1 H1 l1 hk hz hP hS => kk r τ1 H1 l1 hk ⟨hP, hz, hS⟩)
set_option maxHeartbeats 4000000 in
set_option maxRecDepth 100000 in
theorem met_adds (l : Launch) (D : va_G) (dA : Nat → ClassId) (ad : Nat → Nat) (hJ : rgJ twL ad) (sz : Nat) (τ : Sto) (x1 : Int32) (x2 : Int64) (K : Int32 → Sto → Prop) (hT : T_adds τ x1 x2 K) : Met l yX6_adds (ws_ yX6_adds cX6_adds 4 (some .int)) ({ frames := 1, cells := 0, slots := 0, locals := 12 }) (va_Pc [.ref (ad 0), .int x1, .long x2] (rgU D vwCl dA twL ad sz τ)) (va_Qi K (rgU D vwCl dA twL ad sz) (rgAd twL ad)) 0 0 (rgAd twL ad) := by
  refine tw_meti hJ (by decide) rfl (Nat.le_of_ble_eq_true rfl) ?_
  intro p e s m args below meth c Q hC hret hI ls hl
  have hx := hC.1.1
  have hb := hC.1.2.1
  have hl : lv_has ls 4 [(0, .ref (ad 0)), (1, .int x1), (2, .long x2)] := hl
  unfold T_adds at hT
  refine lv_aload_n hx hb dX6_adds_0 rfl (lv_at hl 0 rfl) ?_
  refine tg_40 hC hI dX6_adds_1 ?_
  refine lv_bipush (v := 8) hx hb dX6_adds_4 (by decide) ?_
  refine lv_iload_n hx hb dX6_adds_6 rfl (lv_at hl 1 rfl) ?_
  refine lv_imul hx hb dX6_adds_7 ?_
  refine lv_aload_n hx hb dX6_adds_8 rfl (lv_at hl 0 rfl) ?_
  refine tg_39 hC hI dX6_adds_9 ?_
  refine lv_iload_n hx hb dX6_adds_12 rfl (lv_at hl 1 rfl) ?_
  refine tw_iald hC hI tl_40 hT dX6_adds_13 (fun hT => ?_)
  refine lv_iadd hx hb dX6_adds_14 ?_
  refine lv_lload_n hx hb dX6_adds_15 rfl (lv_at hl 2 rfl) ?_
  refine tw_last hC hI tl_41 hT dX6_adds_16 (fun τ1 H locs hT hI => ?_)
  refine lv_aload_n hx hb dX6_adds_17 rfl (lv_at hl 0 rfl) ?_
  refine tg_39 hC hI dX6_adds_18 ?_
  refine lv_iload_n hx hb dX6_adds_21 rfl (lv_at hl 1 rfl) ?_
  refine lv_dup2_11 hx hb dX6_adds_22 rfl rfl ?_
  refine tw_iald hC hI tl_40 hT dX6_adds_23 (fun hT => ?_)
  refine lv_iconst (v := 1) hx hb dX6_adds_24 (by decide) ?_
  refine lv_iadd hx hb dX6_adds_25 ?_
  refine tw_iast hC hI tl_40 hT dX6_adds_26 (fun τ2 H locs hT hI => ?_)
  refine lv_aload_n hx hb dX6_adds_27 rfl (lv_at hl 0 rfl) ?_
  refine tg_39 hC hI dX6_adds_28 ?_
  refine lv_iload_n hx hb dX6_adds_31 rfl (lv_at hl 1 rfl) ?_
  refine tw_iald hC hI tl_40 hT dX6_adds_32 (fun hT => ?_)
  refine lv_iconst (v := 1) hx hb dX6_adds_33 (by decide) ?_
  refine lv_isub hx hb dX6_adds_34 ?_
  exact hret _ _ _ _ _ _ hT hI dX6_adds_35
theorem tc_adds {p : Program} {l : Launch} {e : Env} {R : Room} {s : State} {m : MethodId} {args : Array Value} {below : List Frame} {meth : Method} {c : Code} {H : Heap} {locs : List Loc} {cells slots : Nat} {Q : State → Prop} {cc : ByteArray} {nL : Nat} {D : va_G} {dA : Nat → ClassId} {ad : Nat → Nat} {τ : Sto} {pc sz : Nat} {ls : Array Slot} {rest : List Value} {H0 : Heap} {x1 : Int32} {x2 : Int64} {K : Int32 → Sto → Prop} (hC : tC p m c cc nL s args D dA ad) (hI : tI D dA ad sz H0 τ H locs) (hT : T_adds τ x1 x2 K) (hR : 1 + 1 ≤ R.frames ∧ 8 + (4 + 11) + 12 ≤ R.locals) (hf : cells ≤ R.cells ∧ slots ≤ R.slots) (hsz : ls.size = nL) (hroom : (rest.map fun v => v.category).sum ≤ 8) (hdg : decode cc pc = .ok (.invokevirtual 323, 3)) (kk : ∀ (r : Int32) (τ1 : Sto) (H1 : Heap) (locs1 : List Loc), K r τ1 → tI D dA ad sz H0 τ1 H1 locs1 → W p l e R s m args below meth c H1 locs1 cells slots Q (F0 m (pc + 3) ls (.int r :: rest))) : W p l e R s m args below meth c H locs cells slots Q (F0 m pc ls (.long x2 :: .int x1 :: .ref (ad 0) :: rest)) :=
  rg_calli (rg_runV hC.1 hC.2.1 hI.1 hI.2.1 tl_0 rfl (met_adds l D dA ad hC.2.2 sz τ x1 x2 K hT) (lw_V q2081 q2083 qs74 q170 q2084) 2 (by decide +kernel) ⟨rfl, rfl⟩ hR rfl hsz rfl hroom hf hdg) hI.2.2 (fun r τ1 H1 l1 hk hz hP hS => kk r τ1 H1 l1 hk ⟨hP, hz, hS⟩)
set_option maxHeartbeats 4000000 in
set_option maxRecDepth 100000 in
theorem met_thingTold (l : Launch) (D : va_G) (dA : Nat → ClassId) (ad : Nat → Nat) (hJ : rgJ twL ad) (sz : Nat) (τ : Sto) (x1 : Int32) (K : Sto → Prop) (hT : T_thingTold τ x1 K) : Met l yX6_thingTold (ws_ yX6_thingTold cX6_thingTold 8 (none)) ({ frames := 6, cells := 0, slots := 0, locals := 122 }) (va_Pc [.ref (ad 0), .int x1] (rgU D vwCl dA twL ad sz τ)) (va_Qv K (rgU D vwCl dA twL ad sz) (rgAd twL ad)) 0 0 (rgAd twL ad) := by
  refine tw_metv hJ (by decide) rfl (Nat.le_of_ble_eq_true rfl) ?_
  intro p e s m args below meth c Q hC hret hI ls hl
  have hx := hC.1.1
  have hb := hC.1.2.1
  have hl : lv_has ls 8 [(0, .ref (ad 0)), (1, .int x1)] := hl
  unfold T_thingTold at hT
  refine lv_aload_n hx hb dX6_thingTold_0 rfl (lv_at hl 0 rfl) ?_
  refine lv_iconst (v := 0) hx hb dX6_thingTold_1 (by decide) ?_
  refine lv_bipush (v := 8) hx hb dX6_thingTold_2 (by decide) ?_
  refine lv_iload_n hx hb dX6_thingTold_4 rfl (lv_at hl 1 rfl) ?_
  refine tc_isFull hC hI hT ⟨Nat.le_of_ble_eq_true rfl, Nat.le_of_ble_eq_true rfl⟩ ⟨Nat.zero_le _, Nat.zero_le _⟩ hl.1 (Nat.le_of_ble_eq_true rfl) dX6_thingTold_5 (fun r2 τ1 H locs hT hI => ?_)
  refine lv_if_eq (tgt := 12) hx hb dX6_thingTold_8 (by decide) (fun hc => ?_) (fun hc => ?_)
  · have hT := hT.1 hc
    refine lv_aload_n hx hb dX6_thingTold_12 rfl (lv_at hl 0 rfl) ?_
    refine tc_newName hC hI hT ⟨Nat.le_of_ble_eq_true rfl, Nat.le_of_ble_eq_true rfl⟩ ⟨Nat.zero_le _, Nat.zero_le _⟩ hl.1 (Nat.le_of_ble_eq_true rfl) dX6_thingTold_13 (fun r4 τ3 H locs hT hI => ?_)
    refine lv_lstore_n (lv' := [(2, .long r4), (0, .ref (ad 0)), (1, .int x1)]) hx hb dX6_thingTold_16 rfl hl (Nat.le_of_ble_eq_true rfl) rfl (fun ls hl => ?_)
    refine lv_aload_n hx hb dX6_thingTold_17 rfl (lv_at hl 1 rfl) ?_
    refine lv_aload_n hx hb dX6_thingTold_18 rfl (lv_at hl 1 rfl) ?_
    refine tg_11 hC hI dX6_thingTold_19 ?_
    refine tc_asks hC hI hT ⟨Nat.le_of_ble_eq_true rfl, Nat.le_of_ble_eq_true rfl⟩ ⟨Nat.zero_le _, Nat.zero_le _⟩ hl.1 (Nat.le_of_ble_eq_true rfl) dX6_thingTold_22 (fun τ5 H locs hT hI => ?_)
    refine lv_aload_n hx hb dX6_thingTold_25 rfl (lv_at hl 1 rfl) ?_
    refine lv_iconst (v := 0) hx hb dX6_thingTold_26 (by decide) ?_
    refine lv_bipush (v := 99) hx hb dX6_thingTold_27 (by decide) ?_
    refine tc_number hC hI hT ⟨Nat.le_of_ble_eq_true rfl, Nat.le_of_ble_eq_true rfl⟩ ⟨Nat.zero_le _, Nat.zero_le _⟩ hl.1 (Nat.le_of_ble_eq_true rfl) dX6_thingTold_29 (fun r7 τ6 H locs hT hI => ?_)
    refine lv_istore (lv' := [(4, .int r7), (2, .long r4), (0, .ref (ad 0)), (1, .int x1)]) hx hb dX6_thingTold_32 hl (Nat.le_of_ble_eq_true rfl) rfl (fun ls hl => ?_)
    refine lv_aload_n hx hb dX6_thingTold_34 rfl (lv_at hl 2 rfl) ?_
    refine lv_aload_n hx hb dX6_thingTold_35 rfl (lv_at hl 2 rfl) ?_
    refine tg_12 hC hI dX6_thingTold_36 ?_
    refine tc_asks hC hI hT ⟨Nat.le_of_ble_eq_true rfl, Nat.le_of_ble_eq_true rfl⟩ ⟨Nat.zero_le _, Nat.zero_le _⟩ hl.1 (Nat.le_of_ble_eq_true rfl) dX6_thingTold_39 (fun τ8 H locs hT hI => ?_)
    refine lv_aload_n hx hb dX6_thingTold_42 rfl (lv_at hl 2 rfl) ?_
    refine lv_iconst (v := 0) hx hb dX6_thingTold_43 (by decide) ?_
    refine lv_bipush (v := 99) hx hb dX6_thingTold_44 (by decide) ?_
    refine tc_number hC hI hT ⟨Nat.le_of_ble_eq_true rfl, Nat.le_of_ble_eq_true rfl⟩ ⟨Nat.zero_le _, Nat.zero_le _⟩ hl.1 (Nat.le_of_ble_eq_true rfl) dX6_thingTold_46 (fun r10 τ9 H locs hT hI => ?_)
    refine lv_istore (lv' := [(5, .int r10), (4, .int r7), (2, .long r4), (0, .ref (ad 0)), (1, .int x1)]) hx hb dX6_thingTold_49 hl (Nat.le_of_ble_eq_true rfl) rfl (fun ls hl => ?_)
    refine lv_aload_n hx hb dX6_thingTold_51 rfl (lv_at hl 3 rfl) ?_
    refine lv_aload_n hx hb dX6_thingTold_52 rfl (lv_at hl 3 rfl) ?_
    refine tg_13 hC hI dX6_thingTold_53 ?_
    refine tc_asks hC hI hT ⟨Nat.le_of_ble_eq_true rfl, Nat.le_of_ble_eq_true rfl⟩ ⟨Nat.zero_le _, Nat.zero_le _⟩ hl.1 (Nat.le_of_ble_eq_true rfl) dX6_thingTold_56 (fun τ11 H locs hT hI => ?_)
    refine lv_aload_n hx hb dX6_thingTold_59 rfl (lv_at hl 3 rfl) ?_
    refine lv_iconst (v := 0) hx hb dX6_thingTold_60 (by decide) ?_
    refine lv_bipush (v := 9) hx hb dX6_thingTold_61 (by decide) ?_
    refine tc_number hC hI hT ⟨Nat.le_of_ble_eq_true rfl, Nat.le_of_ble_eq_true rfl⟩ ⟨Nat.zero_le _, Nat.zero_le _⟩ hl.1 (Nat.le_of_ble_eq_true rfl) dX6_thingTold_63 (fun r13 τ12 H locs hT hI => ?_)
    refine lv_istore (lv' := [(6, .int r13), (5, .int r10), (4, .int r7), (2, .long r4), (0, .ref (ad 0)), (1, .int x1)]) hx hb dX6_thingTold_66 hl (Nat.le_of_ble_eq_true rfl) rfl (fun ls hl => ?_)
    refine lv_aload_n hx hb dX6_thingTold_68 rfl (lv_at hl 4 rfl) ?_
    refine tg_5 hC hI dX6_thingTold_69 ?_
    refine lv_if_eq (tgt := 76) hx hb dX6_thingTold_72 (by decide) (fun hc => ?_) (fun hc => ?_)
    · have hT := hT.1 hc
      refine lv_iconst (v := 3) hx hb dX6_thingTold_76 (by decide) ?_
      refine lv_aload_n hx hb dX6_thingTold_77 rfl (lv_at hl 4 rfl) ?_
      refine lv_iconst (v := 0) hx hb dX6_thingTold_78 (by decide) ?_
      refine lv_lload_n hx hb dX6_thingTold_79 rfl (lv_at hl 3 rfl) ?_
      refine tc_adds hC hI hT ⟨Nat.le_of_ble_eq_true rfl, Nat.le_of_ble_eq_true rfl⟩ ⟨Nat.zero_le _, Nat.zero_le _⟩ hl.1 (Nat.le_of_ble_eq_true rfl) dX6_thingTold_80 (fun r15 τ14 H locs hT hI => ?_)
      refine lv_imul hx hb dX6_thingTold_83 ?_
      refine lv_istore (lv' := [(7, .int (3 * r15)), (6, .int r13), (5, .int r10), (4, .int r7), (2, .long r4), (0, .ref (ad 0)), (1, .int x1)]) hx hb dX6_thingTold_84 hl (Nat.le_of_ble_eq_true rfl) rfl (fun ls hl => ?_)
      refine lv_aload_n hx hb dX6_thingTold_86 rfl (lv_at hl 5 rfl) ?_
      refine tg_41 hC hI dX6_thingTold_87 ?_
      refine lv_iload hx hb dX6_thingTold_90 (lv_at hl 0 rfl) ?_
      refine lv_iload hx hb dX6_thingTold_92 (lv_at hl 3 rfl) ?_
      refine tw_iast hC hI tl_42 hT dX6_thingTold_94 (fun τ16 H locs hT hI => ?_)
      refine lv_aload_n hx hb dX6_thingTold_95 rfl (lv_at hl 5 rfl) ?_
      refine tg_41 hC hI dX6_thingTold_96 ?_
      refine lv_iload hx hb dX6_thingTold_99 (lv_at hl 0 rfl) ?_
      refine lv_iconst (v := 1) hx hb dX6_thingTold_101 (by decide) ?_
      refine lv_iadd hx hb dX6_thingTold_102 ?_
      refine lv_iload hx hb dX6_thingTold_103 (lv_at hl 2 rfl) ?_
      refine tw_iast hC hI tl_42 hT dX6_thingTold_105 (fun τ17 H locs hT hI => ?_)
      refine lv_aload_n hx hb dX6_thingTold_106 rfl (lv_at hl 5 rfl) ?_
      refine tg_41 hC hI dX6_thingTold_107 ?_
      refine lv_iload hx hb dX6_thingTold_110 (lv_at hl 0 rfl) ?_
      refine lv_iconst (v := 2) hx hb dX6_thingTold_112 (by decide) ?_
      refine lv_iadd hx hb dX6_thingTold_113 ?_
      refine lv_iload hx hb dX6_thingTold_114 (lv_at hl 1 rfl) ?_
      refine tw_iast hC hI tl_42 hT dX6_thingTold_116 (fun τ18 H locs hT hI => ?_)
      exact hret _ _ _ _ _ hT hI dX6_thingTold_117
    · have hT := hT.2 hc
      exact hret _ _ _ _ _ hT hI dX6_thingTold_75
  · have hT := hT.2 hc
    exact hret _ _ _ _ _ hT hI dX6_thingTold_11
theorem tc_thingTold {p : Program} {l : Launch} {e : Env} {R : Room} {s : State} {m : MethodId} {args : Array Value} {below : List Frame} {meth : Method} {c : Code} {H : Heap} {locs : List Loc} {cells slots : Nat} {Q : State → Prop} {cc : ByteArray} {nL : Nat} {D : va_G} {dA : Nat → ClassId} {ad : Nat → Nat} {τ : Sto} {pc sz : Nat} {ls : Array Slot} {rest : List Value} {H0 : Heap} {x1 : Int32} {K : Sto → Prop} (hC : tC p m c cc nL s args D dA ad) (hI : tI D dA ad sz H0 τ H locs) (hT : T_thingTold τ x1 K) (hR : 6 + 1 ≤ R.frames ∧ 8 + (8 + 11) + 122 ≤ R.locals) (hf : cells ≤ R.cells ∧ slots ≤ R.slots) (hsz : ls.size = nL) (hroom : (rest.map fun v => v.category).sum ≤ 8) (hdg : decode cc pc = .ok (.invokevirtual 359, 3)) (kk : ∀ (τ1 : Sto) (H1 : Heap) (locs1 : List Loc), K τ1 → tI D dA ad sz H0 τ1 H1 locs1 → W p l e R s m args below meth c H1 locs1 cells slots Q (F0 m (pc + 3) ls (rest))) : W p l e R s m args below meth c H locs cells slots Q (F0 m pc ls (.int x1 :: .ref (ad 0) :: rest)) :=
  rg_callv (rg_runV hC.1 hC.2.1 hI.1 hI.2.1 tl_0 rfl (met_thingTold l D dA ad hC.2.2 sz τ x1 K hT) (lw_V q2045 q2047 qs67 q170 q2048) 1 (by decide +kernel) ⟨rfl, rfl⟩ hR rfl hsz rfl hroom hf hdg) hI.2.2 (fun τ1 H1 l1 hk hz hP hS => kk τ1 H1 l1 hk ⟨hP, hz, hS⟩)
set_option maxHeartbeats 4000000 in
set_option maxRecDepth 100000 in
theorem met_menderTold (l : Launch) (D : va_G) (dA : Nat → ClassId) (ad : Nat → Nat) (hJ : rgJ twL ad) (sz : Nat) (τ : Sto) (x1 : Int32) (K : Sto → Prop) (hT : T_menderTold τ x1 K) : Met l yX6_menderTold (ws_ yX6_menderTold cX6_menderTold 7 (none)) ({ frames := 6, cells := 0, slots := 0, locals := 122 }) (va_Pc [.ref (ad 0), .int x1] (rgU D vwCl dA twL ad sz τ)) (va_Qv K (rgU D vwCl dA twL ad sz) (rgAd twL ad)) 0 0 (rgAd twL ad) := by
  refine tw_metv hJ (by decide) rfl (Nat.le_of_ble_eq_true rfl) ?_
  intro p e s m args below meth c Q hC hret hI ls hl
  have hx := hC.1.1
  have hb := hC.1.2.1
  have hl : lv_has ls 7 [(0, .ref (ad 0)), (1, .int x1)] := hl
  unfold T_menderTold at hT
  refine lv_aload_n hx hb dX6_menderTold_0 rfl (lv_at hl 0 rfl) ?_
  refine lv_iconst (v := 1) hx hb dX6_menderTold_1 (by decide) ?_
  refine lv_iconst (v := 4) hx hb dX6_menderTold_2 (by decide) ?_
  refine lv_iload_n hx hb dX6_menderTold_3 rfl (lv_at hl 1 rfl) ?_
  refine tc_isFull hC hI hT ⟨Nat.le_of_ble_eq_true rfl, Nat.le_of_ble_eq_true rfl⟩ ⟨Nat.zero_le _, Nat.zero_le _⟩ hl.1 (Nat.le_of_ble_eq_true rfl) dX6_menderTold_4 (fun r2 τ1 H locs hT hI => ?_)
  refine lv_if_eq (tgt := 11) hx hb dX6_menderTold_7 (by decide) (fun hc => ?_) (fun hc => ?_)
  · have hT := hT.1 hc
    refine lv_aload_n hx hb dX6_menderTold_11 rfl (lv_at hl 0 rfl) ?_
    refine tc_newName hC hI hT ⟨Nat.le_of_ble_eq_true rfl, Nat.le_of_ble_eq_true rfl⟩ ⟨Nat.zero_le _, Nat.zero_le _⟩ hl.1 (Nat.le_of_ble_eq_true rfl) dX6_menderTold_12 (fun r4 τ3 H locs hT hI => ?_)
    refine lv_lstore_n (lv' := [(2, .long r4), (0, .ref (ad 0)), (1, .int x1)]) hx hb dX6_menderTold_15 rfl hl (Nat.le_of_ble_eq_true rfl) rfl (fun ls hl => ?_)
    refine lv_aload_n hx hb dX6_menderTold_16 rfl (lv_at hl 1 rfl) ?_
    refine lv_aload_n hx hb dX6_menderTold_17 rfl (lv_at hl 1 rfl) ?_
    refine tg_15 hC hI dX6_menderTold_18 ?_
    refine tc_asks hC hI hT ⟨Nat.le_of_ble_eq_true rfl, Nat.le_of_ble_eq_true rfl⟩ ⟨Nat.zero_le _, Nat.zero_le _⟩ hl.1 (Nat.le_of_ble_eq_true rfl) dX6_menderTold_21 (fun τ5 H locs hT hI => ?_)
    refine lv_aload_n hx hb dX6_menderTold_24 rfl (lv_at hl 1 rfl) ?_
    refine lv_iconst (v := 0) hx hb dX6_menderTold_25 (by decide) ?_
    refine lv_bipush (v := 9) hx hb dX6_menderTold_26 (by decide) ?_
    refine tc_number hC hI hT ⟨Nat.le_of_ble_eq_true rfl, Nat.le_of_ble_eq_true rfl⟩ ⟨Nat.zero_le _, Nat.zero_le _⟩ hl.1 (Nat.le_of_ble_eq_true rfl) dX6_menderTold_28 (fun r7 τ6 H locs hT hI => ?_)
    refine lv_istore (lv' := [(4, .int r7), (2, .long r4), (0, .ref (ad 0)), (1, .int x1)]) hx hb dX6_menderTold_31 hl (Nat.le_of_ble_eq_true rfl) rfl (fun ls hl => ?_)
    refine lv_aload_n hx hb dX6_menderTold_33 rfl (lv_at hl 2 rfl) ?_
    refine lv_aload_n hx hb dX6_menderTold_34 rfl (lv_at hl 2 rfl) ?_
    refine tg_16 hC hI dX6_menderTold_35 ?_
    refine tc_asks hC hI hT ⟨Nat.le_of_ble_eq_true rfl, Nat.le_of_ble_eq_true rfl⟩ ⟨Nat.zero_le _, Nat.zero_le _⟩ hl.1 (Nat.le_of_ble_eq_true rfl) dX6_menderTold_38 (fun τ8 H locs hT hI => ?_)
    refine lv_aload_n hx hb dX6_menderTold_41 rfl (lv_at hl 2 rfl) ?_
    refine lv_iconst (v := 1) hx hb dX6_menderTold_42 (by decide) ?_
    refine lv_bipush (v := 24) hx hb dX6_menderTold_43 (by decide) ?_
    refine tc_number hC hI hT ⟨Nat.le_of_ble_eq_true rfl, Nat.le_of_ble_eq_true rfl⟩ ⟨Nat.zero_le _, Nat.zero_le _⟩ hl.1 (Nat.le_of_ble_eq_true rfl) dX6_menderTold_45 (fun r10 τ9 H locs hT hI => ?_)
    refine lv_istore (lv' := [(5, .int r10), (4, .int r7), (2, .long r4), (0, .ref (ad 0)), (1, .int x1)]) hx hb dX6_menderTold_48 hl (Nat.le_of_ble_eq_true rfl) rfl (fun ls hl => ?_)
    refine lv_aload_n hx hb dX6_menderTold_50 rfl (lv_at hl 3 rfl) ?_
    refine tg_5 hC hI dX6_menderTold_51 ?_
    refine lv_if_eq (tgt := 58) hx hb dX6_menderTold_54 (by decide) (fun hc => ?_) (fun hc => ?_)
    · have hT := hT.1 hc
      refine lv_iconst (v := 2) hx hb dX6_menderTold_58 (by decide) ?_
      refine lv_aload_n hx hb dX6_menderTold_59 rfl (lv_at hl 3 rfl) ?_
      refine lv_iconst (v := 1) hx hb dX6_menderTold_60 (by decide) ?_
      refine lv_lload_n hx hb dX6_menderTold_61 rfl (lv_at hl 2 rfl) ?_
      refine tc_adds hC hI hT ⟨Nat.le_of_ble_eq_true rfl, Nat.le_of_ble_eq_true rfl⟩ ⟨Nat.zero_le _, Nat.zero_le _⟩ hl.1 (Nat.le_of_ble_eq_true rfl) dX6_menderTold_62 (fun r12 τ11 H locs hT hI => ?_)
      refine lv_imul hx hb dX6_menderTold_65 ?_
      refine lv_istore (lv' := [(6, .int (2 * r12)), (5, .int r10), (4, .int r7), (2, .long r4), (0, .ref (ad 0)), (1, .int x1)]) hx hb dX6_menderTold_66 hl (Nat.le_of_ble_eq_true rfl) rfl (fun ls hl => ?_)
      refine lv_aload_n hx hb dX6_menderTold_68 rfl (lv_at hl 4 rfl) ?_
      refine tg_42 hC hI dX6_menderTold_69 ?_
      refine lv_iload hx hb dX6_menderTold_72 (lv_at hl 0 rfl) ?_
      refine lv_iload hx hb dX6_menderTold_74 (lv_at hl 2 rfl) ?_
      refine tw_iast hC hI tl_43 hT dX6_menderTold_76 (fun τ13 H locs hT hI => ?_)
      refine lv_aload_n hx hb dX6_menderTold_77 rfl (lv_at hl 4 rfl) ?_
      refine tg_42 hC hI dX6_menderTold_78 ?_
      refine lv_iload hx hb dX6_menderTold_81 (lv_at hl 0 rfl) ?_
      refine lv_iconst (v := 1) hx hb dX6_menderTold_83 (by decide) ?_
      refine lv_iadd hx hb dX6_menderTold_84 ?_
      refine lv_iload hx hb dX6_menderTold_85 (lv_at hl 1 rfl) ?_
      refine tw_iast hC hI tl_43 hT dX6_menderTold_87 (fun τ14 H locs hT hI => ?_)
      exact hret _ _ _ _ _ hT hI dX6_menderTold_88
    · have hT := hT.2 hc
      exact hret _ _ _ _ _ hT hI dX6_menderTold_57
  · have hT := hT.2 hc
    exact hret _ _ _ _ _ hT hI dX6_menderTold_10
theorem tc_menderTold {p : Program} {l : Launch} {e : Env} {R : Room} {s : State} {m : MethodId} {args : Array Value} {below : List Frame} {meth : Method} {c : Code} {H : Heap} {locs : List Loc} {cells slots : Nat} {Q : State → Prop} {cc : ByteArray} {nL : Nat} {D : va_G} {dA : Nat → ClassId} {ad : Nat → Nat} {τ : Sto} {pc sz : Nat} {ls : Array Slot} {rest : List Value} {H0 : Heap} {x1 : Int32} {K : Sto → Prop} (hC : tC p m c cc nL s args D dA ad) (hI : tI D dA ad sz H0 τ H locs) (hT : T_menderTold τ x1 K) (hR : 6 + 1 ≤ R.frames ∧ 8 + (7 + 11) + 122 ≤ R.locals) (hf : cells ≤ R.cells ∧ slots ≤ R.slots) (hsz : ls.size = nL) (hroom : (rest.map fun v => v.category).sum ≤ 8) (hdg : decode cc pc = .ok (.invokevirtual 362, 3)) (kk : ∀ (τ1 : Sto) (H1 : Heap) (locs1 : List Loc), K τ1 → tI D dA ad sz H0 τ1 H1 locs1 → W p l e R s m args below meth c H1 locs1 cells slots Q (F0 m (pc + 3) ls (rest))) : W p l e R s m args below meth c H locs cells slots Q (F0 m pc ls (.int x1 :: .ref (ad 0) :: rest)) :=
  rg_callv (rg_runV hC.1 hC.2.1 hI.1 hI.2.1 tl_0 rfl (met_menderTold l D dA ad hC.2.2 sz τ x1 K hT) (lw_V q2085 q2087 qs75 q170 q2088) 1 (by decide +kernel) ⟨rfl, rfl⟩ hR rfl hsz rfl hroom hf hdg) hI.2.2 (fun τ1 H1 l1 hk hz hP hS => kk τ1 H1 l1 hk ⟨hP, hz, hS⟩)
set_option maxHeartbeats 4000000 in
set_option maxRecDepth 100000 in
theorem met_kindBy (l : Launch) (D : va_G) (dA : Nat → ClassId) (ad : Nat → Nat) (hJ : rgJ twL ad) (sz : Nat) (τ : Sto) (x0 : Int32) (K : Int32 → Sto → Prop) (hT : T_kindBy τ x0 K) : Met l yX6_kindBy (ws_ yX6_kindBy cX6_kindBy 1 (some .int)) ({ frames := 1, cells := 0, slots := 0, locals := 12 }) (va_Pc [.int x0] (rgU D vwCl dA twL ad sz τ)) (va_Qi K (rgU D vwCl dA twL ad sz) (rgAd twL ad)) 0 0 (rgAd twL ad) := by
  refine tw_meti hJ (by decide) rfl (Nat.le_of_ble_eq_true rfl) ?_
  intro p e s m args below meth c Q hC hret hI ls hl
  have hx := hC.1.1
  have hb := hC.1.2.1
  have hl : lv_has ls 1 [(0, .int x0)] := hl
  unfold T_kindBy at hT
  refine lv_iload_n hx hb dX6_kindBy_0 rfl (lv_at hl 0 rfl) ?_
  refine lv_iconst (v := 1) hx hb dX6_kindBy_1 (by decide) ?_
  refine lv_icmp_eq (tgt := 10) hx hb dX6_kindBy_2 (by decide) (fun hc => ?_) (fun hc => ?_)
  · have hT := hT.1 hc
    refine lv_iconst (v := 0) hx hb dX6_kindBy_10 (by decide) ?_
    refine lv_goto (tgt := 29) hx hb dX6_kindBy_11 (by decide) ?_
    exact hret _ _ _ _ _ _ hT hI dX6_kindBy_29
  · have hT := hT.2 hc
    refine lv_iload_n hx hb dX6_kindBy_5 rfl (lv_at hl 0 rfl) ?_
    refine lv_iconst (v := 4) hx hb dX6_kindBy_6 (by decide) ?_
    refine lv_icmp_ne (tgt := 14) hx hb dX6_kindBy_7 (by decide) (fun hc => ?_) (fun hc => ?_)
    · have hT := hT.1 hc
      refine lv_iload_n hx hb dX6_kindBy_14 rfl (lv_at hl 0 rfl) ?_
      refine lv_iconst (v := 2) hx hb dX6_kindBy_15 (by decide) ?_
      refine lv_icmp_eq (tgt := 24) hx hb dX6_kindBy_16 (by decide) (fun hc => ?_) (fun hc => ?_)
      · have hT := hT.1 hc
        refine lv_iconst (v := 2) hx hb dX6_kindBy_24 (by decide) ?_
        refine lv_goto (tgt := 29) hx hb dX6_kindBy_25 (by decide) ?_
        exact hret _ _ _ _ _ _ hT hI dX6_kindBy_29
      · have hT := hT.2 hc
        refine lv_iload_n hx hb dX6_kindBy_19 rfl (lv_at hl 0 rfl) ?_
        refine lv_iconst (v := 3) hx hb dX6_kindBy_20 (by decide) ?_
        refine lv_icmp_ne (tgt := 28) hx hb dX6_kindBy_21 (by decide) (fun hc => ?_) (fun hc => ?_)
        · have hT := hT.1 hc
          refine lv_iconst (v := 1) hx hb dX6_kindBy_28 (by decide) ?_
          exact hret _ _ _ _ _ _ hT hI dX6_kindBy_29
        · have hT := hT.2 hc
          refine lv_iconst (v := 2) hx hb dX6_kindBy_24 (by decide) ?_
          refine lv_goto (tgt := 29) hx hb dX6_kindBy_25 (by decide) ?_
          exact hret _ _ _ _ _ _ hT hI dX6_kindBy_29
    · have hT := hT.2 hc
      refine lv_iconst (v := 0) hx hb dX6_kindBy_10 (by decide) ?_
      refine lv_goto (tgt := 29) hx hb dX6_kindBy_11 (by decide) ?_
      exact hret _ _ _ _ _ _ hT hI dX6_kindBy_29
theorem tc_kindBy {p : Program} {l : Launch} {e : Env} {R : Room} {s : State} {m : MethodId} {args : Array Value} {below : List Frame} {meth : Method} {c : Code} {H : Heap} {locs : List Loc} {cells slots : Nat} {Q : State → Prop} {cc : ByteArray} {nL : Nat} {D : va_G} {dA : Nat → ClassId} {ad : Nat → Nat} {τ : Sto} {pc sz : Nat} {ls : Array Slot} {rest : List Value} {H0 : Heap} {x0 : Int32} {K : Int32 → Sto → Prop} (hC : tC p m c cc nL s args D dA ad) (hI : tI D dA ad sz H0 τ H locs) (hT : T_kindBy τ x0 K) (hR : 1 + 1 ≤ R.frames ∧ 8 + (1 + 11) + 12 ≤ R.locals) (hf : cells ≤ R.cells ∧ slots ≤ R.slots) (hsz : ls.size = nL) (hroom : (rest.map fun v => v.category).sum ≤ 8) (hdg : decode cc pc = .ok (.invokestatic 327, 3)) (kk : ∀ (r : Int32) (τ1 : Sto) (H1 : Heap) (locs1 : List Loc), K r τ1 → tI D dA ad sz H0 τ1 H1 locs1 → W p l e R s m args below meth c H1 locs1 cells slots Q (F0 m (pc + 3) ls (.int r :: rest))) : W p l e R s m args below meth c H locs cells slots Q (F0 m pc ls (.int x0 :: rest)) :=
  rg_calli (rg_runS hC.1 hC.2.1 hI.1 hI.2.1 (met_kindBy l D dA ad hC.2.2 sz τ x0 K hT) (lw_S q2097 q2098 q170 q2099) 1 (by decide +kernel) ⟨rfl, rfl⟩ hR rfl hsz rfl hroom hf hdg) hI.2.2 (fun r τ1 H1 l1 hk hz hP hS => kk r τ1 H1 l1 hk ⟨hP, hz, hS⟩)
set_option maxHeartbeats 4000000 in
set_option maxRecDepth 100000 in
theorem met_qOpens (l : Launch) (D : va_G) (dA : Nat → ClassId) (ad : Nat → Nat) (hJ : rgJ twL ad) (sz : Nat) (τ : Sto) (x1 : Int32) (x2 : Int32) (K : Sto → Prop) (hT : T_qOpens τ x1 x2 K) : Met l yX6_qOpens (ws_ yX6_qOpens cX6_qOpens 3 (none)) ({ frames := 2, cells := 0, slots := 0, locals := 34 }) (va_Pc [.ref (ad 0), .int x1, .int x2] (rgU D vwCl dA twL ad sz τ)) (va_Qv K (rgU D vwCl dA twL ad sz) (rgAd twL ad)) 0 0 (rgAd twL ad) := by
  refine tw_metv hJ (by decide) rfl (Nat.le_of_ble_eq_true rfl) ?_
  intro p e s m args below meth c Q hC hret hI ls hl
  have hx := hC.1.1
  have hb := hC.1.2.1
  have hl : lv_has ls 3 [(0, .ref (ad 0)), (1, .int x1), (2, .int x2)] := hl
  unfold T_qOpens at hT
  refine lv_aload_n hx hb dX6_qOpens_0 rfl (lv_at hl 0 rfl) ?_
  refine tg_5 hC hI dX6_qOpens_1 ?_
  refine lv_if_eq (tgt := 8) hx hb dX6_qOpens_4 (by decide) (fun hc => ?_) (fun hc => ?_)
  · have hT := hT.1 hc
    refine lv_aload_n hx hb dX6_qOpens_8 rfl (lv_at hl 0 rfl) ?_
    refine tg_95 hC hI dX6_qOpens_9 ?_
    refine lv_bipush (v := 6) hx hb dX6_qOpens_12 (by decide) ?_
    refine lv_icmp_ne (tgt := 24) hx hb dX6_qOpens_14 (by decide) (fun hc => ?_) (fun hc => ?_)
    · have hT := hT.1 hc
      refine lv_aload_n hx hb dX6_qOpens_24 rfl (lv_at hl 0 rfl) ?_
      refine lv_dup hx hb dX6_qOpens_25 rfl ?_
      refine tg_95 hC hI dX6_qOpens_26 ?_
      refine lv_iconst (v := 1) hx hb dX6_qOpens_29 (by decide) ?_
      refine lv_iadd hx hb dX6_qOpens_30 ?_
      refine tp_95 hC hI hT dX6_qOpens_31 (fun τ1 H locs hT hI => ?_)
      refine lv_aload_n hx hb dX6_qOpens_34 rfl (lv_at hl 0 rfl) ?_
      refine tg_93 hC hI dX6_qOpens_35 ?_
      refine lv_aload_n hx hb dX6_qOpens_38 rfl (lv_at hl 0 rfl) ?_
      refine tg_94 hC hI dX6_qOpens_39 ?_
      refine lv_iload_n hx hb dX6_qOpens_42 rfl (lv_at hl 1 rfl) ?_
      refine tw_iast hC hI tl_94 hT dX6_qOpens_43 (fun τ2 H locs hT hI => ?_)
      refine lv_aload_n hx hb dX6_qOpens_44 rfl (lv_at hl 0 rfl) ?_
      refine lv_dup hx hb dX6_qOpens_45 rfl ?_
      refine tg_94 hC hI dX6_qOpens_46 ?_
      refine lv_iconst (v := 1) hx hb dX6_qOpens_49 (by decide) ?_
      refine lv_iadd hx hb dX6_qOpens_50 ?_
      refine tp_94 hC hI hT dX6_qOpens_51 (fun τ3 H locs hT hI => ?_)
      exact hret _ _ _ _ _ hT hI dX6_qOpens_54
    · have hT := hT.2 hc
      refine lv_aload_n hx hb dX6_qOpens_17 rfl (lv_at hl 0 rfl) ?_
      refine lv_iconst (v := 4) hx hb dX6_qOpens_18 (by decide) ?_
      refine lv_iload_n hx hb dX6_qOpens_19 rfl (lv_at hl 2 rfl) ?_
      refine tc_fail hC hI hT ⟨Nat.le_of_ble_eq_true rfl, Nat.le_of_ble_eq_true rfl⟩ ⟨Nat.zero_le _, Nat.zero_le _⟩ hl.1 (Nat.le_of_ble_eq_true rfl) dX6_qOpens_20 (fun τ4 H locs hT hI => ?_)
      exact hret _ _ _ _ _ hT hI dX6_qOpens_23
  · have hT := hT.2 hc
    exact hret _ _ _ _ _ hT hI dX6_qOpens_7
theorem tc_qOpens {p : Program} {l : Launch} {e : Env} {R : Room} {s : State} {m : MethodId} {args : Array Value} {below : List Frame} {meth : Method} {c : Code} {H : Heap} {locs : List Loc} {cells slots : Nat} {Q : State → Prop} {cc : ByteArray} {nL : Nat} {D : va_G} {dA : Nat → ClassId} {ad : Nat → Nat} {τ : Sto} {pc sz : Nat} {ls : Array Slot} {rest : List Value} {H0 : Heap} {x1 : Int32} {x2 : Int32} {K : Sto → Prop} (hC : tC p m c cc nL s args D dA ad) (hI : tI D dA ad sz H0 τ H locs) (hT : T_qOpens τ x1 x2 K) (hR : 2 + 1 ≤ R.frames ∧ 8 + (3 + 11) + 34 ≤ R.locals) (hf : cells ≤ R.cells ∧ slots ≤ R.slots) (hsz : ls.size = nL) (hroom : (rest.map fun v => v.category).sum ≤ 8) (hdg : decode cc pc = .ok (.invokevirtual 608, 3)) (kk : ∀ (τ1 : Sto) (H1 : Heap) (locs1 : List Loc), K τ1 → tI D dA ad sz H0 τ1 H1 locs1 → W p l e R s m args below meth c H1 locs1 cells slots Q (F0 m (pc + 3) ls (rest))) : W p l e R s m args below meth c H locs cells slots Q (F0 m pc ls (.int x2 :: .int x1 :: .ref (ad 0) :: rest)) :=
  rg_callv (rg_runV hC.1 hC.2.1 hI.1 hI.2.1 tl_0 rfl (met_qOpens l D dA ad hC.2.2 sz τ x1 x2 K hT) (lw_V q2104 q2106 qs79 q170 q2107) 2 (by decide +kernel) ⟨rfl, rfl⟩ hR rfl hsz rfl hroom hf hdg) hI.2.2 (fun τ1 H1 l1 hk hz hP hS => kk τ1 H1 l1 hk ⟨hP, hz, hS⟩)
set_option maxHeartbeats 4000000 in
set_option maxRecDepth 100000 in
theorem met_qCode (l : Launch) (D : va_G) (dA : Nat → ClassId) (ad : Nat → Nat) (hJ : rgJ twL ad) (sz : Nat) (τ : Sto) (x1 : Int32) (K : Sto → Prop) (hT : T_qCode τ x1 K) : Met l yX6_qCode (ws_ yX6_qCode cX6_qCode 2 (none)) ({ frames := 1, cells := 0, slots := 0, locals := 12 }) (va_Pc [.ref (ad 0), .int x1] (rgU D vwCl dA twL ad sz τ)) (va_Qv K (rgU D vwCl dA twL ad sz) (rgAd twL ad)) 0 0 (rgAd twL ad) := by
  refine tw_metv hJ (by decide) rfl (Nat.le_of_ble_eq_true rfl) ?_
  intro p e s m args below meth c Q hC hret hI ls hl
  have hx := hC.1.1
  have hb := hC.1.2.1
  have hl : lv_has ls 2 [(0, .ref (ad 0)), (1, .int x1)] := hl
  unfold T_qCode at hT
  refine lv_aload_n hx hb dX6_qCode_0 rfl (lv_at hl 0 rfl) ?_
  refine tg_91 hC hI dX6_qCode_1 ?_
  refine lv_aload_n hx hb dX6_qCode_4 rfl (lv_at hl 0 rfl) ?_
  refine tg_92 hC hI dX6_qCode_5 ?_
  refine lv_iload_n hx hb dX6_qCode_8 rfl (lv_at hl 1 rfl) ?_
  refine tw_iast hC hI tl_92 hT dX6_qCode_9 (fun τ1 H locs hT hI => ?_)
  refine lv_aload_n hx hb dX6_qCode_10 rfl (lv_at hl 0 rfl) ?_
  refine lv_dup hx hb dX6_qCode_11 rfl ?_
  refine tg_92 hC hI dX6_qCode_12 ?_
  refine lv_iconst (v := 1) hx hb dX6_qCode_15 (by decide) ?_
  refine lv_iadd hx hb dX6_qCode_16 ?_
  refine tp_92 hC hI hT dX6_qCode_17 (fun τ2 H locs hT hI => ?_)
  exact hret _ _ _ _ _ hT hI dX6_qCode_20
theorem tc_qCode {p : Program} {l : Launch} {e : Env} {R : Room} {s : State} {m : MethodId} {args : Array Value} {below : List Frame} {meth : Method} {c : Code} {H : Heap} {locs : List Loc} {cells slots : Nat} {Q : State → Prop} {cc : ByteArray} {nL : Nat} {D : va_G} {dA : Nat → ClassId} {ad : Nat → Nat} {τ : Sto} {pc sz : Nat} {ls : Array Slot} {rest : List Value} {H0 : Heap} {x1 : Int32} {K : Sto → Prop} (hC : tC p m c cc nL s args D dA ad) (hI : tI D dA ad sz H0 τ H locs) (hT : T_qCode τ x1 K) (hR : 1 + 1 ≤ R.frames ∧ 8 + (2 + 11) + 12 ≤ R.locals) (hf : cells ≤ R.cells ∧ slots ≤ R.slots) (hsz : ls.size = nL) (hroom : (rest.map fun v => v.category).sum ≤ 8) (hdg : decode cc pc = .ok (.invokevirtual 590, 3)) (kk : ∀ (τ1 : Sto) (H1 : Heap) (locs1 : List Loc), K τ1 → tI D dA ad sz H0 τ1 H1 locs1 → W p l e R s m args below meth c H1 locs1 cells slots Q (F0 m (pc + 3) ls (rest))) : W p l e R s m args below meth c H locs cells slots Q (F0 m pc ls (.int x1 :: .ref (ad 0) :: rest)) :=
  rg_callv (rg_runV hC.1 hC.2.1 hI.1 hI.2.1 tl_0 rfl (met_qCode l D dA ad hC.2.2 sz τ x1 K hT) (lw_V q2112 q2114 qs81 q170 q2115) 1 (by decide +kernel) ⟨rfl, rfl⟩ hR rfl hsz rfl hroom hf hdg) hI.2.2 (fun τ1 H1 l1 hk hz hP hS => kk τ1 H1 l1 hk ⟨hP, hz, hS⟩)
set_option maxHeartbeats 4000000 in
set_option maxRecDepth 100000 in
theorem met_qWordHere (l : Launch) (D : va_G) (dA : Nat → ClassId) (ad : Nat → Nat) (hJ : rgJ twL ad) (sz : Nat) (τ : Sto) (K : Int32 → Sto → Prop) (hT : T_qWordHere τ K) : Met l yX6_qWordHere (ws_ yX6_qWordHere cX6_qWordHere 1 (some .int)) ({ frames := 3, cells := 0, slots := 0, locals := 55 }) (va_Pc [.ref (ad 0)] (rgU D vwCl dA twL ad sz τ)) (va_Qi K (rgU D vwCl dA twL ad sz) (rgAd twL ad)) 0 0 (rgAd twL ad) := by
  refine tw_meti hJ (by decide) rfl (Nat.le_of_ble_eq_true rfl) ?_
  intro p e s m args below meth c Q hC hret hI ls hl
  have hx := hC.1.1
  have hb := hC.1.2.1
  have hl : lv_has ls 1 [(0, .ref (ad 0))] := hl
  unfold T_qWordHere at hT
  refine lv_aload_n hx hb dX6_qWordHere_0 rfl (lv_at hl 0 rfl) ?_
  refine lv_aload_n hx hb dX6_qWordHere_1 rfl (lv_at hl 0 rfl) ?_
  refine tg_80 hC hI dX6_qWordHere_2 ?_
  refine tc_isHere hC hI hT ⟨Nat.le_of_ble_eq_true rfl, Nat.le_of_ble_eq_true rfl⟩ ⟨Nat.zero_le _, Nat.zero_le _⟩ hl.1 (Nat.le_of_ble_eq_true rfl) dX6_qWordHere_5 (fun r2 τ1 H locs hT hI => ?_)
  refine lv_if_eq (tgt := 13) hx hb dX6_qWordHere_8 (by decide) (fun hc => ?_) (fun hc => ?_)
  · have hT := hT.1 hc
    refine lv_aload_n hx hb dX6_qWordHere_13 rfl (lv_at hl 0 rfl) ?_
    refine lv_aload_n hx hb dX6_qWordHere_14 rfl (lv_at hl 0 rfl) ?_
    refine tg_81 hC hI dX6_qWordHere_15 ?_
    refine tc_isHere hC hI hT ⟨Nat.le_of_ble_eq_true rfl, Nat.le_of_ble_eq_true rfl⟩ ⟨Nat.zero_le _, Nat.zero_le _⟩ hl.1 (Nat.le_of_ble_eq_true rfl) dX6_qWordHere_18 (fun r4 τ3 H locs hT hI => ?_)
    refine lv_if_eq (tgt := 26) hx hb dX6_qWordHere_21 (by decide) (fun hc => ?_) (fun hc => ?_)
    · have hT := hT.1 hc
      refine lv_aload_n hx hb dX6_qWordHere_26 rfl (lv_at hl 0 rfl) ?_
      refine lv_aload_n hx hb dX6_qWordHere_27 rfl (lv_at hl 0 rfl) ?_
      refine tg_82 hC hI dX6_qWordHere_28 ?_
      refine tc_isHere hC hI hT ⟨Nat.le_of_ble_eq_true rfl, Nat.le_of_ble_eq_true rfl⟩ ⟨Nat.zero_le _, Nat.zero_le _⟩ hl.1 (Nat.le_of_ble_eq_true rfl) dX6_qWordHere_31 (fun r6 τ5 H locs hT hI => ?_)
      refine lv_if_eq (tgt := 39) hx hb dX6_qWordHere_34 (by decide) (fun hc => ?_) (fun hc => ?_)
      · have hT := hT.1 hc
        refine lv_aload_n hx hb dX6_qWordHere_39 rfl (lv_at hl 0 rfl) ?_
        refine lv_aload_n hx hb dX6_qWordHere_40 rfl (lv_at hl 0 rfl) ?_
        refine tg_83 hC hI dX6_qWordHere_41 ?_
        refine tc_isHere hC hI hT ⟨Nat.le_of_ble_eq_true rfl, Nat.le_of_ble_eq_true rfl⟩ ⟨Nat.zero_le _, Nat.zero_le _⟩ hl.1 (Nat.le_of_ble_eq_true rfl) dX6_qWordHere_44 (fun r8 τ7 H locs hT hI => ?_)
        refine lv_if_eq (tgt := 52) hx hb dX6_qWordHere_47 (by decide) (fun hc => ?_) (fun hc => ?_)
        · have hT := hT.1 hc
          refine lv_aload_n hx hb dX6_qWordHere_52 rfl (lv_at hl 0 rfl) ?_
          refine lv_aload_n hx hb dX6_qWordHere_53 rfl (lv_at hl 0 rfl) ?_
          refine tg_84 hC hI dX6_qWordHere_54 ?_
          refine tc_isHere hC hI hT ⟨Nat.le_of_ble_eq_true rfl, Nat.le_of_ble_eq_true rfl⟩ ⟨Nat.zero_le _, Nat.zero_le _⟩ hl.1 (Nat.le_of_ble_eq_true rfl) dX6_qWordHere_57 (fun r10 τ9 H locs hT hI => ?_)
          refine lv_if_eq (tgt := 65) hx hb dX6_qWordHere_60 (by decide) (fun hc => ?_) (fun hc => ?_)
          · have hT := hT.1 hc
            refine lv_aload_n hx hb dX6_qWordHere_65 rfl (lv_at hl 0 rfl) ?_
            refine lv_aload_n hx hb dX6_qWordHere_66 rfl (lv_at hl 0 rfl) ?_
            refine tg_85 hC hI dX6_qWordHere_67 ?_
            refine tc_isHere hC hI hT ⟨Nat.le_of_ble_eq_true rfl, Nat.le_of_ble_eq_true rfl⟩ ⟨Nat.zero_le _, Nat.zero_le _⟩ hl.1 (Nat.le_of_ble_eq_true rfl) dX6_qWordHere_70 (fun r12 τ11 H locs hT hI => ?_)
            refine lv_if_eq (tgt := 78) hx hb dX6_qWordHere_73 (by decide) (fun hc => ?_) (fun hc => ?_)
            · have hT := hT.1 hc
              refine lv_aload_n hx hb dX6_qWordHere_78 rfl (lv_at hl 0 rfl) ?_
              refine lv_aload_n hx hb dX6_qWordHere_79 rfl (lv_at hl 0 rfl) ?_
              refine tg_86 hC hI dX6_qWordHere_80 ?_
              refine tc_isHere hC hI hT ⟨Nat.le_of_ble_eq_true rfl, Nat.le_of_ble_eq_true rfl⟩ ⟨Nat.zero_le _, Nat.zero_le _⟩ hl.1 (Nat.le_of_ble_eq_true rfl) dX6_qWordHere_83 (fun r14 τ13 H locs hT hI => ?_)
              refine lv_if_eq (tgt := 92) hx hb dX6_qWordHere_86 (by decide) (fun hc => ?_) (fun hc => ?_)
              · have hT := hT.1 hc
                refine lv_aload_n hx hb dX6_qWordHere_92 rfl (lv_at hl 0 rfl) ?_
                refine lv_aload_n hx hb dX6_qWordHere_93 rfl (lv_at hl 0 rfl) ?_
                refine tg_87 hC hI dX6_qWordHere_94 ?_
                refine tc_isHere hC hI hT ⟨Nat.le_of_ble_eq_true rfl, Nat.le_of_ble_eq_true rfl⟩ ⟨Nat.zero_le _, Nat.zero_le _⟩ hl.1 (Nat.le_of_ble_eq_true rfl) dX6_qWordHere_97 (fun r16 τ15 H locs hT hI => ?_)
                refine lv_if_eq (tgt := 106) hx hb dX6_qWordHere_100 (by decide) (fun hc => ?_) (fun hc => ?_)
                · have hT := hT.1 hc
                  refine lv_aload_n hx hb dX6_qWordHere_106 rfl (lv_at hl 0 rfl) ?_
                  refine lv_aload_n hx hb dX6_qWordHere_107 rfl (lv_at hl 0 rfl) ?_
                  refine tg_88 hC hI dX6_qWordHere_108 ?_
                  refine tc_isHere hC hI hT ⟨Nat.le_of_ble_eq_true rfl, Nat.le_of_ble_eq_true rfl⟩ ⟨Nat.zero_le _, Nat.zero_le _⟩ hl.1 (Nat.le_of_ble_eq_true rfl) dX6_qWordHere_111 (fun r18 τ17 H locs hT hI => ?_)
                  refine lv_if_eq (tgt := 120) hx hb dX6_qWordHere_114 (by decide) (fun hc => ?_) (fun hc => ?_)
                  · have hT := hT.1 hc
                    refine lv_aload_n hx hb dX6_qWordHere_120 rfl (lv_at hl 0 rfl) ?_
                    refine lv_aload_n hx hb dX6_qWordHere_121 rfl (lv_at hl 0 rfl) ?_
                    refine tg_89 hC hI dX6_qWordHere_122 ?_
                    refine tc_isHere hC hI hT ⟨Nat.le_of_ble_eq_true rfl, Nat.le_of_ble_eq_true rfl⟩ ⟨Nat.zero_le _, Nat.zero_le _⟩ hl.1 (Nat.le_of_ble_eq_true rfl) dX6_qWordHere_125 (fun r20 τ19 H locs hT hI => ?_)
                    refine lv_if_eq (tgt := 134) hx hb dX6_qWordHere_128 (by decide) (fun hc => ?_) (fun hc => ?_)
                    · have hT := hT.1 hc
                      refine lv_aload_n hx hb dX6_qWordHere_134 rfl (lv_at hl 0 rfl) ?_
                      refine lv_aload_n hx hb dX6_qWordHere_135 rfl (lv_at hl 0 rfl) ?_
                      refine tg_90 hC hI dX6_qWordHere_136 ?_
                      refine tc_isHere hC hI hT ⟨Nat.le_of_ble_eq_true rfl, Nat.le_of_ble_eq_true rfl⟩ ⟨Nat.zero_le _, Nat.zero_le _⟩ hl.1 (Nat.le_of_ble_eq_true rfl) dX6_qWordHere_139 (fun r22 τ21 H locs hT hI => ?_)
                      refine lv_if_eq (tgt := 148) hx hb dX6_qWordHere_142 (by decide) (fun hc => ?_) (fun hc => ?_)
                      · have hT := hT.1 hc
                        refine lv_iconst (v := -1) hx hb dX6_qWordHere_148 (by decide) ?_
                        exact hret _ _ _ _ _ _ hT hI dX6_qWordHere_149
                      · have hT := hT.2 hc
                        refine lv_bipush (v := 10) hx hb dX6_qWordHere_145 (by decide) ?_
                        exact hret _ _ _ _ _ _ hT hI dX6_qWordHere_147
                    · have hT := hT.2 hc
                      refine lv_bipush (v := 9) hx hb dX6_qWordHere_131 (by decide) ?_
                      exact hret _ _ _ _ _ _ hT hI dX6_qWordHere_133
                  · have hT := hT.2 hc
                    refine lv_bipush (v := 8) hx hb dX6_qWordHere_117 (by decide) ?_
                    exact hret _ _ _ _ _ _ hT hI dX6_qWordHere_119
                · have hT := hT.2 hc
                  refine lv_bipush (v := 7) hx hb dX6_qWordHere_103 (by decide) ?_
                  exact hret _ _ _ _ _ _ hT hI dX6_qWordHere_105
              · have hT := hT.2 hc
                refine lv_bipush (v := 6) hx hb dX6_qWordHere_89 (by decide) ?_
                exact hret _ _ _ _ _ _ hT hI dX6_qWordHere_91
            · have hT := hT.2 hc
              refine lv_iconst (v := 5) hx hb dX6_qWordHere_76 (by decide) ?_
              exact hret _ _ _ _ _ _ hT hI dX6_qWordHere_77
          · have hT := hT.2 hc
            refine lv_iconst (v := 4) hx hb dX6_qWordHere_63 (by decide) ?_
            exact hret _ _ _ _ _ _ hT hI dX6_qWordHere_64
        · have hT := hT.2 hc
          refine lv_iconst (v := 3) hx hb dX6_qWordHere_50 (by decide) ?_
          exact hret _ _ _ _ _ _ hT hI dX6_qWordHere_51
      · have hT := hT.2 hc
        refine lv_iconst (v := 2) hx hb dX6_qWordHere_37 (by decide) ?_
        exact hret _ _ _ _ _ _ hT hI dX6_qWordHere_38
    · have hT := hT.2 hc
      refine lv_iconst (v := 1) hx hb dX6_qWordHere_24 (by decide) ?_
      exact hret _ _ _ _ _ _ hT hI dX6_qWordHere_25
  · have hT := hT.2 hc
    refine lv_iconst (v := 0) hx hb dX6_qWordHere_11 (by decide) ?_
    exact hret _ _ _ _ _ _ hT hI dX6_qWordHere_12
theorem tc_qWordHere {p : Program} {l : Launch} {e : Env} {R : Room} {s : State} {m : MethodId} {args : Array Value} {below : List Frame} {meth : Method} {c : Code} {H : Heap} {locs : List Loc} {cells slots : Nat} {Q : State → Prop} {cc : ByteArray} {nL : Nat} {D : va_G} {dA : Nat → ClassId} {ad : Nat → Nat} {τ : Sto} {pc sz : Nat} {ls : Array Slot} {rest : List Value} {H0 : Heap} {K : Int32 → Sto → Prop} (hC : tC p m c cc nL s args D dA ad) (hI : tI D dA ad sz H0 τ H locs) (hT : T_qWordHere τ K) (hR : 3 + 1 ≤ R.frames ∧ 8 + (1 + 11) + 55 ≤ R.locals) (hf : cells ≤ R.cells ∧ slots ≤ R.slots) (hsz : ls.size = nL) (hroom : (rest.map fun v => v.category).sum ≤ 8) (hdg : decode cc pc = .ok (.invokevirtual 599, 3)) (kk : ∀ (r : Int32) (τ1 : Sto) (H1 : Heap) (locs1 : List Loc), K r τ1 → tI D dA ad sz H0 τ1 H1 locs1 → W p l e R s m args below meth c H1 locs1 cells slots Q (F0 m (pc + 3) ls (.int r :: rest))) : W p l e R s m args below meth c H locs cells slots Q (F0 m pc ls (.ref (ad 0) :: rest)) :=
  rg_calli (rg_runV hC.1 hC.2.1 hI.1 hI.2.1 tl_0 rfl (met_qWordHere l D dA ad hC.2.2 sz τ K hT) (lw_V q2128 q2130 qs85 q170 q2131) 0 (by decide +kernel) ⟨rfl, rfl⟩ hR rfl hsz rfl hroom hf hdg) hI.2.2 (fun r τ1 H1 l1 hk hz hP hS => kk r τ1 H1 l1 hk ⟨hP, hz, hS⟩)
