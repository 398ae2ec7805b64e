abbrev PTP := CS → Int32 → Int32 → Int32 → Int32 → (Unit → CS → Prop) → Prop
def MetP (l : Launch) (D : va_G) (dA : Nat → ClassId) (ad : Nat → Nat) (Hs : Heap) (fr lo : Nat) (P : PTP) : Prop :=
  ∀ (σ : CS) (x1 x2 x3 x4 : Int32) (K : Unit → CS → Prop), P σ x1 x2 x3 x4 K → Met l yX0_places (ws_ yX0_places cX0_places 7 (none)) ({ frames := fr, cells := 0, slots := 0, locals := lo }) (va_Pc [.ref (ad 0), .int x1, .int x2, .int x3, .int x4] (cU D dA ad 1296 Hs σ)) (xQ rvU K (cU D dA ad 1296 Hs) (cA ad)) 0 0 (cA ad)
def U_X0_places_53 (PP : PTP) (K : Unit → CS → Prop) (x1 : Int32) (x2 : Int32) (x3 : Int32) (x4 : Int32) : Nat → Int32 → CS → Prop
  | 0 => fun _ _ => False
  | n + 1 => fun x5 σ => U_X0_things σ (fun r2 σ1 => (((r2 ≤ x5 → (K () σ1)) ∧ (¬ r2 ≤ x5 → (U_X0_has σ1 x1 x5 (fun r4 σ3 => (((¬ r4 = 0 → (vp_in x2 6 ∧ (∀ σ5 : CS, σ5 = wI σ3 132 (Int32.toNatClampNeg x2) x5 → (U_X5_takes σ5 16 x5 0 (fun r7 σ6 => (U_X0_thingOf σ6 x5 (fun r9 σ8 => (∃ q10, r9 = q10 + 1 ∧ (gK σ8 q10 = some kO7 ∧ (PP σ8 (x1 &&& ((1 <<< (x5 &&& 31)) ^^^ (-1))) (x2 + 1) (x3 + r7) (x4 + ((gI σ8 q10 2) * (x3 + r7))) (fun _ σ11 => (U_X0_places_53 PP K x1 x2 x3 x4 n (x5 + 1) σ11)))))))))))) ∧ (r4 = 0 → (U_X0_places_53 PP K x1 x2 x3 x4 n (x5 + 1) σ3))))))))))
def U_X0_places_23 (PP : PTP) (K : Unit → CS → Prop) (x2 : Int32) : Nat → Int32 → CS → Prop
  | 0 => fun _ _ => False
  | n + 1 => fun x5 σ => ((x2 ≤ x5 → (K () σ)) ∧ (¬ x2 ≤ x5 → (vp_in x5 6 ∧ (vp_in x5 6 ∧ (∀ σ13 : CS, σ13 = wI σ 133 (Int32.toNatClampNeg x5) (gI σ 132 (Int32.toNatClampNeg x5)) → (U_X0_places_23 PP K x2 n (x5 + 1) σ13))))))
def U_X0_places (PP : PTP) (σ : CS) (x1 : Int32) (x2 : Int32) (x3 : Int32) (x4 : Int32) (K : Unit → CS → Prop) : Prop := ((x4 < (gI σ 0 13) → (((¬ x1 = 0 → (∃ n53, U_X0_places_53 PP K x1 x2 x3 x4 n53 0 σ)) ∧ (x1 = 0 → (∀ σ14 : CS, σ14 = wI σ 0 13 x4 → (∃ n23, U_X0_places_23 PP K x2 n23 0 σ14)))))) ∧ (¬ x4 < (gI σ 0 13) → (K () σ)))
theorem hdV_X0_places : yX0_places.cls = RX0 ∧ yX0_places.cls ≠ "java/lang/invoke/MethodHandle" ∧ yX0_places.cls ≠ "java/lang/invoke/VarHandle" ∧ (parseMethodDescriptor yX0_places.desc).map (fun d => d.parameters.length) = some 4 := by decide +kernel
set_option maxHeartbeats 4000000 in
set_option maxRecDepth 100000 in
theorem um_X0_places (l : Launch) (D : va_G) (dA : Nat → ClassId) (ad : Nat → Nat) (Hs : Heap) (hA : cAd ad 1296 Hs.size) (fr lo : Nat) (PP : PTP) (hPP : MetP l D dA ad Hs fr lo PP) (hfr : 903 ≤ fr) (hlo : 18572 ≤ lo) (σ : CS) (x1 : Int32) (x2 : Int32) (x3 : Int32) (x4 : Int32) (K : Unit → CS → Prop) (hT : U_X0_places PP σ x1 x2 x3 x4 K) : Met l yX0_places (ws_ yX0_places cX0_places 7 (none)) ({ frames := 1 + fr, cells := 0, slots := 0, locals := 26 + lo }) (va_Pc [.ref (ad 0), .int x1, .int x2, .int x3, .int x4] (cU D dA ad 1296 Hs σ)) (xQ rvU K (cU D dA ad 1296 Hs) (cA ad)) 0 0 (cA ad) := by
  refine xm_v hA (by decide) rfl (Nat.le_of_ble_eq_true rfl) ?_
  intro p e s m args below meth c Q hC hN hret hI ls hl
  have hx := hC.1.1
  have hb := hC.1.2.1
  have hB : 0 ≤ 0 ∧ 0 ≤ 0 := ⟨Nat.zero_le _, Nat.zero_le _⟩
  have hl : lv_has ls 7 [(0, .ref (ad 0)), (1, .int x1), (2, .int x2), (3, .int x3), (4, .int x4)] := hl
  have w_53 : ∀ (x1 : Int32) (x2 : Int32) (x3 : Int32) (x4 : Int32) (n : Nat) (x5 : Int32) (σ : CS) (H : Heap) (locs : List Loc) (ls : Array Slot), U_X0_places_53 PP K x1 x2 x3 x4 n x5 σ → xI D dA ad 1296 Hs s.heap σ H locs → lv_has ls 7 [(0, .ref (ad 0)), (1, .int x1), (2, .int x2), (3, .int x3), (4, .int x4), (5, .int x5)] → W p l e ({ frames := 1 + fr, cells := 0, slots := 0, locals := 26 + lo }) s m args below meth c H locs 0 0 Q (F0 m 53 ls []) := by
    intro x1 x2 x3 x4 n
    induction n with
    | zero => intro x5 σ H locs ls hT; exact hT.elim
    | succ n ih =>
      intro x5 σ H locs ls hT hI hl
      unfold U_X0_places_53 at hT
      refine lv_iload hx hb dX0_places_53 (lv_at hl 5 rfl) ?_
      refine lv_aload_n hx hb dX0_places_55 rfl (lv_at hl 0 rfl) ?_
      refine x_call (x_runV (i := 0) hC hI (xst hI (Nat.le_of_ble_eq_true rfl) sl_0) rfl (um_X0_things l D dA ad Hs hC.2.2 σ _ hT) (lw_V q1249 q1251 qs34 q158 q1252) 0 hdV_X0_things ⟨rfl, rfl⟩ (by constructor <;> (dsimp only; omega)) rfl hl.1 rfl (Nat.le_of_ble_eq_true rfl) hB dX0_places_56) hI (fun r2 σ1 H locs hT hI => ?_)
      refine W.eq (g2 := F0 m 59 ls [.int r2, .int x5]) rfl ?_
      refine lv_icmp_ge (tgt := 134) hx hb dX0_places_59 (by decide) (fun hc => ?_) (fun hc => ?_)
      · replace hT := hT.1 hc
        exact hret _ _ _ _ _ _ _ _ hT hI hB dX0_places_134
      · replace hT := hT.2 hc
        refine lv_iload_n hx hb dX0_places_62 rfl (lv_at hl 1 rfl) ?_
        refine lv_iload hx hb dX0_places_63 (lv_at hl 5 rfl) ?_
        refine x_call (x_runS hC hI (um_X0_has l D dA ad 1296 Hs hC.2.2 σ1 x1 x5 _ hT) (lw_S q1392 q1094 q158 q1095) 2 hdS_X0_has ⟨rfl, rfl⟩ (by constructor <;> (dsimp only; omega)) rfl hl.1 rfl (Nat.le_of_ble_eq_true rfl) hB dX0_places_65) hI (fun r4 σ3 H locs hT hI => ?_)
        refine W.eq (g2 := F0 m 68 ls [.int r4]) rfl ?_
        refine lv_if_ne (tgt := 74) hx hb dX0_places_68 (by decide) (fun hc => ?_) (fun hc => ?_)
        · replace hT := hT.1 hc
          refine lv_aload_n hx hb dX0_places_74 rfl (lv_at hl 0 rfl) ?_
          refine xg0_11 (i := 0) hC hI (xst hI (Nat.le_of_ble_eq_true rfl) sl_0) q483 (fun _ h => h) dX0_places_75 ?_
          refine lv_iload_n hx hb dX0_places_78 rfl (lv_at hl 2 rfl) ?_
          refine lv_iload hx hb dX0_places_79 (lv_at hl 5 rfl) ?_
          refine x_iast (i := 132) hC hI (Nat.lt_of_lt_of_le (show _ < 1296 from (Nat.le_of_ble_eq_true rfl)) (by decide)) (xst hI (Nat.le_of_ble_eq_true rfl) sl_132) hT dX0_places_81 (fun σ5 H locs hT hI => ?_)
          refine lv_iload_n hx hb dX0_places_82 rfl (lv_at hl 3 rfl) ?_
          refine lv_aload_n hx hb dX0_places_83 rfl (lv_at hl 0 rfl) ?_
          refine xg0_9 (i := 0) hC hI (xst hI (Nat.le_of_ble_eq_true rfl) sl_0) q481 (fun _ h => h) dX0_places_84 ?_
          refine lv_iload hx hb dX0_places_87 (lv_at hl 5 rfl) ?_
          refine lv_iconst (v := 0) hx hb dX0_places_89 (by decide) ?_
          refine x_call (x_runV (i := 16) hC hI (xst hI (st_lt (Or.inl rfl : stOK 16) (d := 0) (by decide)) (sls_0 (Or.inl rfl : stOK 16))) rfl (um_X5_takes l D dA ad Hs hC.2.2 σ5 16 x5 0 (Or.inl rfl : stOK 16) _ hT) (lw_V q1445 q1446 q1447 q169 q1448) 2 hdV_X5_takes ⟨rfl, rfl⟩ (by constructor <;> (dsimp only; omega)) rfl hl.1 rfl (Nat.le_of_ble_eq_true rfl) hB dX0_places_90) hI (fun r7 σ6 H locs hT hI => ?_)
          refine W.eq (g2 := F0 m 93 ls [.int r7, .int x3]) rfl ?_
          refine lv_iadd hx hb dX0_places_93 ?_
          refine lv_istore (lv' := [(6, .int (x3 + r7)), (0, .ref (ad 0)), (1, .int x1), (2, .int x2), (3, .int x3), (4, .int x4), (5, .int x5)]) hx hb dX0_places_94 hl (Nat.le_of_ble_eq_true rfl) rfl (fun ls hl => ?_)
          refine lv_aload_n hx hb dX0_places_96 rfl (lv_at hl 1 rfl) ?_
          refine lv_iload_n hx hb dX0_places_97 rfl (lv_at hl 2 rfl) ?_
          refine lv_iconst (v := 1) hx hb dX0_places_98 (by decide) ?_
          refine lv_iload hx hb dX0_places_99 (lv_at hl 6 rfl) ?_
          refine lv_ishl hx hb dX0_places_101 ?_
          refine lv_iconst (v := -1) hx hb dX0_places_102 (by decide) ?_
          refine lv_ixor hx hb dX0_places_103 ?_
          refine lv_iand hx hb dX0_places_104 ?_
          refine lv_iload_n hx hb dX0_places_105 rfl (lv_at hl 3 rfl) ?_
          refine lv_iconst (v := 1) hx hb dX0_places_106 (by decide) ?_
          refine lv_iadd hx hb dX0_places_107 ?_
          refine lv_iload hx hb dX0_places_108 (lv_at hl 0 rfl) ?_
          refine lv_iload hx hb dX0_places_110 (lv_at hl 5 rfl) ?_
          refine lv_aload_n hx hb dX0_places_112 rfl (lv_at hl 1 rfl) ?_
          refine lv_iload hx hb dX0_places_113 (lv_at hl 6 rfl) ?_
          refine x_call (x_runV (i := 0) hC hI (xst hI (Nat.le_of_ble_eq_true rfl) sl_0) rfl (um_X0_thingOf l D dA ad Hs hC.2.2 σ6 x5 _ hT) (lw_V q1393 q1292 qs39 q158 q1293) 1 hdV_X0_thingOf ⟨rfl, rfl⟩ (by constructor <;> (dsimp only; omega)) rfl hl.1 rfl (Nat.le_of_ble_eq_true rfl) hB dX0_places_115) hI (fun r9 σ8 H locs hT hI => ?_)
          refine W.eq (g2 := F0 m 118 ls [va_rf (rgR ad r9), .int x4, .int (x3 + r7), .int (x2 + 1), .int (x1 &&& ((1 <<< (x5 &&& 31)) ^^^ (-1))), .ref (ad 0)]) rfl ?_
          obtain ⟨q10, hqe_q10, hT_q10⟩ := hT
          have hl_q10 := hl
          subst hqe_q10
          replace hT := hT_q10
          refine W.eq (g2 := F0 m 118 ls [.ref (ad q10), .int x4, .int (x3 + r7), .int (x2 + 1), .int (x1 &&& ((1 <<< (x5 &&& 31)) ^^^ (-1))), .ref (ad 0)]) rfl ?_
          have hl : lv_has ls 7 [(6, .int (x3 + r7)), (0, .ref (ad 0)), (1, .int x1), (2, .int x2), (3, .int x3), (4, .int x4), (5, .int x5)] := hl_q10
          obtain ⟨hL, hT⟩ := hT
          refine xgN7_2 (i := q10) hC hI hL q833 (fun _ h => h) dX0_places_118 ?_
          refine lv_iload hx hb dX0_places_121 (lv_at hl 0 rfl) ?_
          refine lv_imul hx hb dX0_places_123 ?_
          refine lv_iadd hx hb dX0_places_124 ?_
          refine x_call (x_runV (i := 0) hC hI (xst hI (Nat.le_of_ble_eq_true rfl) sl_0) rfl (hPP σ8 (x1 &&& ((1 <<< (x5 &&& 31)) ^^^ (-1))) (x2 + 1) (x3 + r7) (x4 + ((gI σ8 q10 2) * (x3 + r7))) _ hT) (lw_V q1549 q1551 qs54 q158 q1552) 4 hdV_X0_places ⟨rfl, rfl⟩ (by constructor <;> (dsimp only; omega)) rfl hl.1 rfl (Nat.le_of_ble_eq_true rfl) hB dX0_places_125) hI (fun _ σ11 H locs hT hI => ?_)
          refine W.eq (g2 := F0 m 128 ls []) rfl ?_
          refine lv_iinc (v := x5 + 1) (lv' := [(5, .int (x5 + 1)), (6, .int (x3 + r7)), (0, .ref (ad 0)), (1, .int x1), (2, .int x2), (3, .int x3), (4, .int x4)]) hx hb dX0_places_128 hl (k := 6) rfl rfl (Nat.le_of_ble_eq_true rfl) rfl (fun ls hl => ?_)
          refine lv_goto (tgt := 53) hx hb dX0_places_131 (by decide) ?_
          exact ih (x5 + 1) σ11 _ _ _ hT hI (lv_sub hl [2, 3, 4, 5, 6, 0] rfl)
        · replace hT := hT.2 hc
          refine lv_goto (tgt := 128) hx hb dX0_places_71 (by decide) ?_
          refine lv_iinc (v := x5 + 1) (lv' := [(5, .int (x5 + 1)), (0, .ref (ad 0)), (1, .int x1), (2, .int x2), (3, .int x3), (4, .int x4)]) hx hb dX0_places_128 hl (k := 5) rfl rfl (Nat.le_of_ble_eq_true rfl) rfl (fun ls hl => ?_)
          refine lv_goto (tgt := 53) hx hb dX0_places_131 (by decide) ?_
          exact ih (x5 + 1) σ3 _ _ _ hT hI (lv_sub hl [1, 2, 3, 4, 5, 0] rfl)
  have w_23 : ∀ (x2 : Int32) (n : Nat) (x5 : Int32) (σ : CS) (H : Heap) (locs : List Loc) (ls : Array Slot), U_X0_places_23 PP K x2 n x5 σ → xI D dA ad 1296 Hs s.heap σ H locs → lv_has ls 7 [(0, .ref (ad 0)), (2, .int x2), (5, .int x5)] → W p l e ({ frames := 1 + fr, cells := 0, slots := 0, locals := 26 + lo }) s m args below meth c H locs 0 0 Q (F0 m 23 ls []) := by
    intro x2 n
    induction n with
    | zero => intro x5 σ H locs ls hT; exact hT.elim
    | succ n ih =>
      intro x5 σ H locs ls hT hI hl
      unfold U_X0_places_23 at hT
      refine lv_iload hx hb dX0_places_23 (lv_at hl 2 rfl) ?_
      refine lv_iload_n hx hb dX0_places_25 rfl (lv_at hl 1 rfl) ?_
      refine lv_icmp_ge (tgt := 49) hx hb dX0_places_26 (by decide) (fun hc => ?_) (fun hc => ?_)
      · replace hT := hT.1 hc
        exact hret _ _ _ _ _ _ _ _ hT hI hB dX0_places_49
      · replace hT := hT.2 hc
        refine lv_aload_n hx hb dX0_places_29 rfl (lv_at hl 0 rfl) ?_
        refine xg0_12 (i := 0) hC hI (xst hI (Nat.le_of_ble_eq_true rfl) sl_0) q484 (fun _ h => h) dX0_places_30 ?_
        refine lv_iload hx hb dX0_places_33 (lv_at hl 2 rfl) ?_
        refine lv_aload_n hx hb dX0_places_35 rfl (lv_at hl 0 rfl) ?_
        refine xg0_11 (i := 0) hC hI (xst hI (Nat.le_of_ble_eq_true rfl) sl_0) q483 (fun _ h => h) dX0_places_36 ?_
        refine lv_iload hx hb dX0_places_39 (lv_at hl 2 rfl) ?_
        refine x_iald (i := 132) hC hI (xst hI (Nat.le_of_ble_eq_true rfl) sl_132) hT dX0_places_41 (fun hT => ?_)
        refine x_iast (i := 133) hC hI (Nat.lt_of_lt_of_le (show _ < 1296 from (Nat.le_of_ble_eq_true rfl)) (by decide)) (xst hI (Nat.le_of_ble_eq_true rfl) sl_133) hT dX0_places_42 (fun σ13 H locs hT hI => ?_)
        refine lv_iinc (v := x5 + 1) (lv' := [(5, .int (x5 + 1)), (0, .ref (ad 0)), (2, .int x2)]) hx hb dX0_places_43 hl (k := 2) rfl rfl (Nat.le_of_ble_eq_true rfl) rfl (fun ls hl => ?_)
        refine lv_goto (tgt := 23) hx hb dX0_places_46 (by decide) ?_
        exact ih (x5 + 1) σ13 _ _ _ hT hI (lv_sub hl [1, 2, 0] rfl)
  unfold U_X0_places at hT
  refine lv_iload hx hb dX0_places_0 (lv_at hl 4 rfl) ?_
  refine lv_aload_n hx hb dX0_places_2 rfl (lv_at hl 0 rfl) ?_
  refine xg0_13 (i := 0) hC hI (xst hI (Nat.le_of_ble_eq_true rfl) sl_0) q485 (fun _ h => h) dX0_places_3 ?_
  refine lv_icmp_lt (tgt := 10) hx hb dX0_places_6 (by decide) (fun hc => ?_) (fun hc => ?_)
  · replace hT := hT.1 hc
    refine lv_iload_n hx hb dX0_places_10 rfl (lv_at hl 1 rfl) ?_
    refine lv_if_ne (tgt := 50) hx hb dX0_places_11 (by decide) (fun hc => ?_) (fun hc => ?_)
    · replace hT := hT.1 hc
      refine lv_iconst (v := 0) hx hb dX0_places_50 (by decide) ?_
      refine lv_istore (lv' := [(5, .int 0), (0, .ref (ad 0)), (1, .int x1), (2, .int x2), (3, .int x3), (4, .int x4)]) hx hb dX0_places_51 hl (Nat.le_of_ble_eq_true rfl) rfl (fun ls hl => ?_)
      obtain ⟨n53, hT⟩ := hT
      exact w_53 x1 x2 x3 x4 n53 0 σ _ _ _ hT hI (lv_sub hl [1, 2, 3, 4, 5, 0] rfl)
    · replace hT := hT.2 hc
      refine lv_aload_n hx hb dX0_places_14 rfl (lv_at hl 0 rfl) ?_
      refine lv_iload hx hb dX0_places_15 (lv_at hl 4 rfl) ?_
      refine xp0_13 (i := 0) (v := x4) hC hI (Nat.lt_of_lt_of_le (show _ < 1296 from (Nat.le_of_ble_eq_true rfl)) (by decide)) (xst hI (Nat.le_of_ble_eq_true rfl) sl_0) hT q485 (fun _ h => h) dX0_places_17 (fun σ14 H locs hT hI => ?_)
      refine lv_iconst (v := 0) hx hb dX0_places_20 (by decide) ?_
      refine lv_istore (lv' := [(5, .int 0), (0, .ref (ad 0)), (1, .int x1), (2, .int x2), (3, .int x3), (4, .int x4)]) hx hb dX0_places_21 hl (Nat.le_of_ble_eq_true rfl) rfl (fun ls hl => ?_)
      obtain ⟨n23, hT⟩ := hT
      exact w_23 x2 n23 0 σ14 _ _ _ hT hI (lv_sub hl [1, 3, 0] rfl)
  · replace hT := hT.2 hc
    exact hret _ _ _ _ _ _ _ _ hT hI hB dX0_places_9
