set_option maxHeartbeats 4000000 in
set_option maxRecDepth 100000 in
theorem met_undo (l : Launch) (D : va_G) (dA : Nat → ClassId) (ad : Nat → Nat) (hJ : rgJ twL ad) (sz : Nat) (τ : Sto) (K : Int32 → Sto → Prop) (hT : T_undo τ K) : Met l yX6_undo (ws_ yX6_undo cX6_undo 2 (some .boolean)) ({ frames := 1, cells := 0, slots := 0, locals := 12 }) (va_Pc [.ref (ad 0)] (rgU D vwCl dA twL ad sz τ)) (va_Qi K (rgU D vwCl dA twL ad sz) (rgAd twL ad)) 0 0 (rgAd twL ad) := by
  refine tw_metz hJ (by decide) rfl (Nat.le_of_ble_eq_true rfl) ?_
  intro p e s m args below meth c Q hC hret hI ls hl
  have hx := hC.1.1
  have hb := hC.1.2.1
  have hl : lv_has ls 2 [(0, .ref (ad 0))] := hl
  have w_21 : ∀ (n : Nat) (x1 : Int32) (τ : Sto) (H : Heap) (locs : List Loc) (ls : Array Slot), T_undo_21 K n x1 τ → tI D dA ad sz s.heap τ H locs → lv_has ls 2 [(0, .ref (ad 0)), (1, .int x1)] → W p l e ({ frames := 1, cells := 0, slots := 0, locals := 12 }) s m args below meth c H locs 0 0 Q (F0 m 21 ls []) := by
    intro n
    induction n with
    | zero => intro x1 τ H locs ls hT; exact hT.elim
    | succ n ih =>
      intro x1 τ H locs ls hT hI hl
      unfold T_undo_21 at hT
      refine lv_iload_n hx hb dX6_undo_21 rfl (lv_at hl 1 rfl) ?_
      refine lv_sipush (v := 192) hx hb dX6_undo_22 (by decide) ?_
      refine lv_icmp_ge (tgt := 55) hx hb dX6_undo_25 (by decide) (fun hc => ?_) (fun hc => ?_)
      · have hT := hT.1 hc
        refine lv_aload_n hx hb dX6_undo_55 rfl (lv_at hl 0 rfl) ?_
        refine lv_aload_n hx hb dX6_undo_56 rfl (lv_at hl 0 rfl) ?_
        refine tg_66 hC hI dX6_undo_57 ?_
        refine lv_bipush (v := 20) hx hb dX6_undo_60 (by decide) ?_
        refine lv_iadd hx hb dX6_undo_62 ?_
        refine lv_iconst (v := 1) hx hb dX6_undo_63 (by decide) ?_
        refine lv_isub hx hb dX6_undo_64 ?_
        refine lv_bipush (v := 20) hx hb dX6_undo_65 (by decide) ?_
        refine lv_irem hx hb dX6_undo_67 (by decide) ?_
        refine tp_66 hC hI hT dX6_undo_68 (fun τ1 H locs hT hI => ?_)
        refine lv_aload_n hx hb dX6_undo_71 rfl (lv_at hl 0 rfl) ?_
        refine lv_dup hx hb dX6_undo_72 rfl ?_
        refine tg_65 hC hI dX6_undo_73 ?_
        refine lv_iconst (v := 1) hx hb dX6_undo_76 (by decide) ?_
        refine lv_isub hx hb dX6_undo_77 ?_
        refine tp_65 hC hI hT dX6_undo_78 (fun τ2 H locs hT hI => ?_)
        refine lv_iconst (v := 1) hx hb dX6_undo_81 (by decide) ?_
        exact hret _ _ _ _ _ _ (by decide) hT hI dX6_undo_82
      · have hT := hT.2 hc
        refine lv_aload_n hx hb dX6_undo_28 rfl (lv_at hl 0 rfl) ?_
        refine tg_51 hC hI dX6_undo_29 ?_
        refine lv_iload_n hx hb dX6_undo_32 rfl (lv_at hl 1 rfl) ?_
        refine lv_aload_n hx hb dX6_undo_33 rfl (lv_at hl 0 rfl) ?_
        refine tg_64 hC hI dX6_undo_34 ?_
        refine lv_sipush (v := 192) hx hb dX6_undo_37 (by decide) ?_
        refine lv_aload_n hx hb dX6_undo_40 rfl (lv_at hl 0 rfl) ?_
        refine tg_66 hC hI dX6_undo_41 ?_
        refine lv_imul hx hb dX6_undo_44 ?_
        refine lv_iload_n hx hb dX6_undo_45 rfl (lv_at hl 1 rfl) ?_
        refine lv_iadd hx hb dX6_undo_46 ?_
        refine tw_iald hC hI tl_65 hT dX6_undo_47 (fun hT => ?_)
        refine tw_iast hC hI tl_52 hT dX6_undo_48 (fun τ3 H locs hT hI => ?_)
        refine lv_iinc (v := x1 + 1) (lv' := [(1, .int (x1 + 1)), (0, .ref (ad 0))]) hx hb dX6_undo_49 hl (k := 1) rfl rfl (Nat.le_of_ble_eq_true rfl) rfl (fun ls hl => ?_)
        refine lv_goto (tgt := 21) hx hb dX6_undo_52 (by decide) ?_
        exact ih (x1 + 1) τ3 _ _ _ hT hI (lv_sub hl [1, 0] rfl)
  unfold T_undo at hT
  refine lv_aload_n hx hb dX6_undo_0 rfl (lv_at hl 0 rfl) ?_
  refine tg_65 hC hI dX6_undo_1 ?_
  refine lv_if_ne (tgt := 19) hx hb dX6_undo_4 (by decide) (fun hc => ?_) (fun hc => ?_)
  · have hT := hT.1 hc
    refine lv_iconst (v := 0) hx hb dX6_undo_19 (by decide) ?_
    refine lv_istore_n (lv' := [(1, .int 0), (0, .ref (ad 0))]) hx hb dX6_undo_20 rfl hl (Nat.le_of_ble_eq_true rfl) rfl (fun ls hl => ?_)
    obtain ⟨n21, hT⟩ := hT
    exact w_21 n21 0 τ _ _ _ hT hI (lv_sub hl [1, 0] rfl)
  · have hT := hT.2 hc
    refine lv_aload_n hx hb dX6_undo_7 rfl (lv_at hl 0 rfl) ?_
    refine tg_9 hC hI dX6_undo_8 ?_
    refine lv_iconst (v := 4) hx hb dX6_undo_11 (by decide) ?_
    refine lv_dup2_11 hx hb dX6_undo_12 rfl rfl ?_
    refine tw_iald hC hI tl_10 hT dX6_undo_13 (fun hT => ?_)
    refine lv_iconst (v := 1) hx hb dX6_undo_14 (by decide) ?_
    refine lv_iadd hx hb dX6_undo_15 ?_
    refine tw_iast hC hI tl_10 hT dX6_undo_16 (fun τ4 H locs hT hI => ?_)
    refine lv_iconst (v := 0) hx hb dX6_undo_17 (by decide) ?_
    exact hret _ _ _ _ _ _ (by decide) hT hI dX6_undo_18
set_option maxHeartbeats 4000000 in
set_option maxRecDepth 100000 in
theorem met_isRefused (l : Launch) (D : va_G) (dA : Nat → ClassId) (ad : Nat → Nat) (hJ : rgJ twL ad) (sz : Nat) (τ : Sto) (K : Int32 → Sto → Prop) (hT : T_isRefused τ K) : Met l yX6_isRefused (ws_ yX6_isRefused cX6_isRefused 1 (some .boolean)) ({ frames := 1, cells := 0, slots := 0, locals := 12 }) (va_Pc [.ref (ad 0)] (rgU D vwCl dA twL ad sz τ)) (va_Qi K (rgU D vwCl dA twL ad sz) (rgAd twL ad)) 0 0 (rgAd twL ad) := by
  refine tw_metz hJ (by decide) rfl (Nat.le_of_ble_eq_true rfl) ?_
  intro p e s m args below meth c Q hC hret hI ls hl
  have hx := hC.1.1
  have hb := hC.1.2.1
  have hl : lv_has ls 1 [(0, .ref (ad 0))] := hl
  unfold T_isRefused at hT
  refine lv_aload_n hx hb dX6_isRefused_0 rfl (lv_at hl 0 rfl) ?_
  refine tg_9 hC hI dX6_isRefused_1 ?_
  refine lv_iconst (v := 2) hx hb dX6_isRefused_4 (by decide) ?_
  refine lv_dup2_11 hx hb dX6_isRefused_5 rfl rfl ?_
  refine tw_iald hC hI tl_10 hT dX6_isRefused_6 (fun hT => ?_)
  refine lv_iconst (v := 1) hx hb dX6_isRefused_7 (by decide) ?_
  refine lv_iadd hx hb dX6_isRefused_8 ?_
  refine tw_iast hC hI tl_10 hT dX6_isRefused_9 (fun τ1 H locs hT hI => ?_)
  refine lv_iconst (v := 0) hx hb dX6_isRefused_10 (by decide) ?_
  exact hret _ _ _ _ _ _ (by decide) hT hI dX6_isRefused_11
theorem tc_isRefused {p : Program} {l : Launch} {e : Env} {R : Room} {s : State} {m : MethodId} {args : Array Value} {below : List Frame} {meth : Method} {c : Code} {H : Heap} {locs : List Loc} {cells slots : Nat} {Q : State → Prop} {cc : ByteArray} {nL : Nat} {D : va_G} {dA : Nat → ClassId} {ad : Nat → Nat} {τ : Sto} {pc sz : Nat} {ls : Array Slot} {rest : List Value} {H0 : Heap} {K : Int32 → Sto → Prop} (hC : tC p m c cc nL s args D dA ad) (hI : tI D dA ad sz H0 τ H locs) (hT : T_isRefused τ K) (hR : 1 + 1 ≤ R.frames ∧ 8 + (1 + 11) + 12 ≤ R.locals) (hf : cells ≤ R.cells ∧ slots ≤ R.slots) (hsz : ls.size = nL) (hroom : (rest.map fun v => v.category).sum ≤ 8) (hdg : decode cc pc = .ok (.invokevirtual 570, 3)) (kk : ∀ (r : Int32) (τ1 : Sto) (H1 : Heap) (locs1 : List Loc), K r τ1 → tI D dA ad sz H0 τ1 H1 locs1 → W p l e R s m args below meth c H1 locs1 cells slots Q (F0 m (pc + 3) ls (.int r :: rest))) : W p l e R s m args below meth c H locs cells slots Q (F0 m pc ls (.ref (ad 0) :: rest)) :=
  rg_calli (rg_runV hC.1 hC.2.1 hI.1 hI.2.1 tl_0 rfl (met_isRefused l D dA ad hC.2.2 sz τ K hT) (lw_V q2480 q2482 qs147 q170 q2483) 0 (by decide +kernel) ⟨rfl, rfl⟩ hR rfl hsz rfl hroom hf hdg) hI.2.2 (fun r τ1 H1 l1 hk hz hP hS => kk r τ1 H1 l1 hk ⟨hP, hz, hS⟩)
set_option maxHeartbeats 4000000 in
set_option maxRecDepth 100000 in
theorem met_keeps (l : Launch) (D : va_G) (dA : Nat → ClassId) (ad : Nat → Nat) (hJ : rgJ twL ad) (sz : Nat) (τ : Sto) (K : Sto → Prop) (hT : T_keeps τ K) : Met l yX6_keeps (ws_ yX6_keeps cX6_keeps 2 (none)) ({ frames := 1, cells := 0, slots := 0, locals := 12 }) (va_Pc [.ref (ad 0)] (rgU D vwCl dA twL ad sz τ)) (va_Qv K (rgU D vwCl dA twL ad sz) (rgAd twL ad)) 0 0 (rgAd twL ad) := by
  refine tw_metv hJ (by decide) rfl (Nat.le_of_ble_eq_true rfl) ?_
  intro p e s m args below meth c Q hC hret hI ls hl
  have hx := hC.1.1
  have hb := hC.1.2.1
  have hl : lv_has ls 2 [(0, .ref (ad 0))] := hl
  have w_15 : ∀ (n : Nat) (x1 : Int32) (τ : Sto) (H : Heap) (locs : List Loc) (ls : Array Slot), T_keeps_15 K n x1 τ → tI D dA ad sz s.heap τ H locs → lv_has ls 2 [(0, .ref (ad 0)), (1, .int x1)] → W p l e ({ frames := 1, cells := 0, slots := 0, locals := 12 }) s m args below meth c H locs 0 0 Q (F0 m 15 ls []) := by
    intro n
    induction n with
    | zero => intro x1 τ H locs ls hT; exact hT.elim
    | succ n ih =>
      intro x1 τ H locs ls hT hI hl
      unfold T_keeps_15 at hT
      refine lv_iload_n hx hb dX6_keeps_15 rfl (lv_at hl 1 rfl) ?_
      refine lv_sipush (v := 192) hx hb dX6_keeps_16 (by decide) ?_
      refine lv_icmp_ge (tgt := 49) hx hb dX6_keeps_19 (by decide) (fun hc => ?_) (fun hc => ?_)
      · have hT := hT.1 hc
        refine lv_aload_n hx hb dX6_keeps_49 rfl (lv_at hl 0 rfl) ?_
        refine tg_65 hC hI dX6_keeps_50 ?_
        refine lv_bipush (v := 20) hx hb dX6_keeps_53 (by decide) ?_
        refine lv_icmp_ge (tgt := 68) hx hb dX6_keeps_55 (by decide) (fun hc => ?_) (fun hc => ?_)
        · have hT := hT.1 hc
          exact hret _ _ _ _ _ hT hI dX6_keeps_68
        · have hT := hT.2 hc
          refine lv_aload_n hx hb dX6_keeps_58 rfl (lv_at hl 0 rfl) ?_
          refine lv_dup hx hb dX6_keeps_59 rfl ?_
          refine tg_65 hC hI dX6_keeps_60 ?_
          refine lv_iconst (v := 1) hx hb dX6_keeps_63 (by decide) ?_
          refine lv_iadd hx hb dX6_keeps_64 ?_
          refine tp_65 hC hI hT dX6_keeps_65 (fun τ1 H locs hT hI => ?_)
          exact hret _ _ _ _ _ hT hI dX6_keeps_68
      · have hT := hT.2 hc
        refine lv_aload_n hx hb dX6_keeps_22 rfl (lv_at hl 0 rfl) ?_
        refine tg_64 hC hI dX6_keeps_23 ?_
        refine lv_sipush (v := 192) hx hb dX6_keeps_26 (by decide) ?_
        refine lv_aload_n hx hb dX6_keeps_29 rfl (lv_at hl 0 rfl) ?_
        refine tg_66 hC hI dX6_keeps_30 ?_
        refine lv_imul hx hb dX6_keeps_33 ?_
        refine lv_iload_n hx hb dX6_keeps_34 rfl (lv_at hl 1 rfl) ?_
        refine lv_iadd hx hb dX6_keeps_35 ?_
        refine lv_aload_n hx hb dX6_keeps_36 rfl (lv_at hl 0 rfl) ?_
        refine tg_51 hC hI dX6_keeps_37 ?_
        refine lv_iload_n hx hb dX6_keeps_40 rfl (lv_at hl 1 rfl) ?_
        refine tw_iald hC hI tl_52 hT dX6_keeps_41 (fun hT => ?_)
        refine tw_iast hC hI tl_65 hT dX6_keeps_42 (fun τ2 H locs hT hI => ?_)
        refine lv_iinc (v := x1 + 1) (lv' := [(1, .int (x1 + 1)), (0, .ref (ad 0))]) hx hb dX6_keeps_43 hl (k := 1) rfl rfl (Nat.le_of_ble_eq_true rfl) rfl (fun ls hl => ?_)
        refine lv_goto (tgt := 15) hx hb dX6_keeps_46 (by decide) ?_
        exact ih (x1 + 1) τ2 _ _ _ hT hI (lv_sub hl [1, 0] rfl)
  unfold T_keeps at hT
  refine lv_aload_n hx hb dX6_keeps_0 rfl (lv_at hl 0 rfl) ?_
  refine lv_aload_n hx hb dX6_keeps_1 rfl (lv_at hl 0 rfl) ?_
  refine tg_66 hC hI dX6_keeps_2 ?_
  refine lv_iconst (v := 1) hx hb dX6_keeps_5 (by decide) ?_
  refine lv_iadd hx hb dX6_keeps_6 ?_
  refine lv_bipush (v := 20) hx hb dX6_keeps_7 (by decide) ?_
  refine lv_irem hx hb dX6_keeps_9 (by decide) ?_
  refine tp_66 hC hI hT dX6_keeps_10 (fun τ3 H locs hT hI => ?_)
  refine lv_iconst (v := 0) hx hb dX6_keeps_13 (by decide) ?_
  refine lv_istore_n (lv' := [(1, .int 0), (0, .ref (ad 0))]) hx hb dX6_keeps_14 rfl hl (Nat.le_of_ble_eq_true rfl) rfl (fun ls hl => ?_)
  obtain ⟨n15, hT⟩ := hT
  exact w_15 n15 0 τ3 _ _ _ hT hI (lv_sub hl [1, 0] rfl)
theorem tc_keeps {p : Program} {l : Launch} {e : Env} {R : Room} {s : State} {m : MethodId} {args : Array Value} {below : List Frame} {meth : Method} {c : Code} {H : Heap} {locs : List Loc} {cells slots : Nat} {Q : State → Prop} {cc : ByteArray} {nL : Nat} {D : va_G} {dA : Nat → ClassId} {ad : Nat → Nat} {τ : Sto} {pc sz : Nat} {ls : Array Slot} {rest : List Value} {H0 : Heap} {K : Sto → Prop} (hC : tC p m c cc nL s args D dA ad) (hI : tI D dA ad sz H0 τ H locs) (hT : T_keeps τ K) (hR : 1 + 1 ≤ R.frames ∧ 8 + (2 + 11) + 12 ≤ R.locals) (hf : cells ≤ R.cells ∧ slots ≤ R.slots) (hsz : ls.size = nL) (hroom : (rest.map fun v => v.category).sum ≤ 8) (hdg : decode cc pc = .ok (.invokevirtual 573, 3)) (kk : ∀ (τ1 : Sto) (H1 : Heap) (locs1 : List Loc), K τ1 → tI D dA ad sz H0 τ1 H1 locs1 → W p l e R s m args below meth c H1 locs1 cells slots Q (F0 m (pc + 3) ls (rest))) : W p l e R s m args below meth c H locs cells slots Q (F0 m pc ls (.ref (ad 0) :: rest)) :=
  rg_callv (rg_runV hC.1 hC.2.1 hI.1 hI.2.1 tl_0 rfl (met_keeps l D dA ad hC.2.2 sz τ K hT) (lw_V q2484 q2486 qs148 q170 q2487) 0 (by decide +kernel) ⟨rfl, rfl⟩ hR rfl hsz rfl hroom hf hdg) hI.2.2 (fun τ1 H1 l1 hk hz hP hS => kk τ1 H1 l1 hk ⟨hP, hz, hS⟩)
set_option maxHeartbeats 4000000 in
set_option maxRecDepth 100000 in
theorem met_strike (l : Launch) (D : va_G) (dA : Nat → ClassId) (ad : Nat → Nat) (hJ : rgJ twL ad) (sz : Nat) (τ : Sto) (x1 : Int32) (K : Int32 → Sto → Prop) (hT : T_strike τ x1 K) : Met l yX6_strike (ws_ yX6_strike cX6_strike 2 (some .boolean)) ({ frames := 3, cells := 0, slots := 0, locals := 58 }) (va_Pc [.ref (ad 0), .int x1] (rgU D vwCl dA twL ad sz τ)) (va_Qi K (rgU D vwCl dA twL ad sz) (rgAd twL ad)) 0 0 (rgAd twL ad) := by
  refine tw_metz hJ (by decide) rfl (Nat.le_of_ble_eq_true rfl) ?_
  intro p e s m args below meth c Q hC hret hI ls hl
  have hx := hC.1.1
  have hb := hC.1.2.1
  have hl : lv_has ls 2 [(0, .ref (ad 0)), (1, .int x1)] := hl
  unfold T_strike at hT
  refine lv_aload_n hx hb dX6_strike_0 rfl (lv_at hl 0 rfl) ?_
  refine lv_iload_n hx hb dX6_strike_1 rfl (lv_at hl 1 rfl) ?_
  refine tc_isThing hC hI hT ⟨Nat.le_of_ble_eq_true rfl, Nat.le_of_ble_eq_true rfl⟩ ⟨Nat.zero_le _, Nat.zero_le _⟩ hl.1 (Nat.le_of_ble_eq_true rfl) dX6_strike_2 (fun r2 τ1 H locs hT hI => ?_)
  refine lv_if_eq (tgt := 16) hx hb dX6_strike_5 (by decide) (fun hc => ?_) (fun hc => ?_)
  · have hT := hT.1 hc
    refine lv_aload_n hx hb dX6_strike_16 rfl (lv_at hl 0 rfl) ?_
    refine tc_isRefused hC hI hT ⟨Nat.le_of_ble_eq_true rfl, Nat.le_of_ble_eq_true rfl⟩ ⟨Nat.zero_le _, Nat.zero_le _⟩ hl.1 (Nat.le_of_ble_eq_true rfl) dX6_strike_17 (fun r4 τ3 H locs hT hI => ?_)
    exact hret _ _ _ _ _ _ hT.1 hT.2 hI dX6_strike_20
  · have hT := hT.2 hc
    refine lv_aload_n hx hb dX6_strike_8 rfl (lv_at hl 0 rfl) ?_
    refine lv_iload_n hx hb dX6_strike_9 rfl (lv_at hl 1 rfl) ?_
    refine tc_isBroken hC hI hT ⟨Nat.le_of_ble_eq_true rfl, Nat.le_of_ble_eq_true rfl⟩ ⟨Nat.zero_le _, Nat.zero_le _⟩ hl.1 (Nat.le_of_ble_eq_true rfl) dX6_strike_10 (fun r6 τ5 H locs hT hI => ?_)
    refine lv_if_eq (tgt := 21) hx hb dX6_strike_13 (by decide) (fun hc => ?_) (fun hc => ?_)
    · have hT := hT.1 hc
      refine lv_aload_n hx hb dX6_strike_21 rfl (lv_at hl 0 rfl) ?_
      refine tc_keeps hC hI hT ⟨Nat.le_of_ble_eq_true rfl, Nat.le_of_ble_eq_true rfl⟩ ⟨Nat.zero_le _, Nat.zero_le _⟩ hl.1 (Nat.le_of_ble_eq_true rfl) dX6_strike_22 (fun τ7 H locs hT hI => ?_)
      refine lv_aload_n hx hb dX6_strike_25 rfl (lv_at hl 0 rfl) ?_
      refine lv_iload_n hx hb dX6_strike_26 rfl (lv_at hl 1 rfl) ?_
      refine tc_isBreaking hC hI hT ⟨Nat.le_of_ble_eq_true rfl, Nat.le_of_ble_eq_true rfl⟩ ⟨Nat.zero_le _, Nat.zero_le _⟩ hl.1 (Nat.le_of_ble_eq_true rfl) dX6_strike_27 (fun τ8 H locs hT hI => ?_)
      refine lv_iconst (v := 1) hx hb dX6_strike_30 (by decide) ?_
      exact hret _ _ _ _ _ _ (by decide) hT hI dX6_strike_31
    · have hT := hT.2 hc
      refine lv_aload_n hx hb dX6_strike_16 rfl (lv_at hl 0 rfl) ?_
      refine tc_isRefused hC hI hT ⟨Nat.le_of_ble_eq_true rfl, Nat.le_of_ble_eq_true rfl⟩ ⟨Nat.zero_le _, Nat.zero_le _⟩ hl.1 (Nat.le_of_ble_eq_true rfl) dX6_strike_17 (fun r10 τ9 H locs hT hI => ?_)
      exact hret _ _ _ _ _ _ hT.1 hT.2 hI dX6_strike_20
set_option maxHeartbeats 4000000 in
set_option maxRecDepth 100000 in
theorem met_mend (l : Launch) (D : va_G) (dA : Nat → ClassId) (ad : Nat → Nat) (hJ : rgJ twL ad) (sz : Nat) (τ : Sto) (x1 : Int32) (x2 : Int32) (K : Int32 → Sto → Prop) (hT : T_mend τ x1 x2 K) : Met l yX6_mend (ws_ yX6_mend cX6_mend 3 (some .int)) ({ frames := 6, cells := 0, slots := 0, locals := 133 }) (va_Pc [.ref (ad 0), .int x1, .int x2] (rgU D vwCl dA twL ad sz τ)) (va_Qi K (rgU D vwCl dA twL ad sz) (rgAd twL ad)) 0 0 (rgAd twL ad) := by
  refine tw_meti hJ (by decide) rfl (Nat.le_of_ble_eq_true rfl) ?_
  intro p e s m args below meth c Q hC hret hI ls hl
  have hx := hC.1.1
  have hb := hC.1.2.1
  have hl : lv_has ls 3 [(0, .ref (ad 0)), (1, .int x1), (2, .int x2)] := hl
  unfold T_mend at hT
  refine lv_aload_n hx hb dX6_mend_0 rfl (lv_at hl 0 rfl) ?_
  refine lv_iload_n hx hb dX6_mend_1 rfl (lv_at hl 1 rfl) ?_
  refine tc_isThing hC hI hT ⟨Nat.le_of_ble_eq_true rfl, Nat.le_of_ble_eq_true rfl⟩ ⟨Nat.zero_le _, Nat.zero_le _⟩ hl.1 (Nat.le_of_ble_eq_true rfl) dX6_mend_2 (fun r2 τ1 H locs hT hI => ?_)
  refine lv_if_eq (tgt := 24) hx hb dX6_mend_5 (by decide) (fun hc => ?_) (fun hc => ?_)
  · have hT := hT.1 hc
    refine lv_aload_n hx hb dX6_mend_24 rfl (lv_at hl 0 rfl) ?_
    refine lv_iconst (v := 2) hx hb dX6_mend_25 (by decide) ?_
    refine tc_refuses hC hI hT ⟨Nat.le_of_ble_eq_true rfl, Nat.le_of_ble_eq_true rfl⟩ ⟨Nat.zero_le _, Nat.zero_le _⟩ hl.1 (Nat.le_of_ble_eq_true rfl) dX6_mend_26 (fun r4 τ3 H locs hT hI => ?_)
    exact hret _ _ _ _ _ _ hT hI dX6_mend_29
  · have hT := hT.2 hc
    refine lv_aload_n hx hb dX6_mend_8 rfl (lv_at hl 0 rfl) ?_
    refine lv_iload_n hx hb dX6_mend_9 rfl (lv_at hl 2 rfl) ?_
    refine tc_isMender hC hI hT ⟨Nat.le_of_ble_eq_true rfl, Nat.le_of_ble_eq_true rfl⟩ ⟨Nat.zero_le _, Nat.zero_le _⟩ hl.1 (Nat.le_of_ble_eq_true rfl) dX6_mend_10 (fun r6 τ5 H locs hT hI => ?_)
    refine lv_if_eq (tgt := 24) hx hb dX6_mend_13 (by decide) (fun hc => ?_) (fun hc => ?_)
    · have hT := hT.1 hc
      refine lv_aload_n hx hb dX6_mend_24 rfl (lv_at hl 0 rfl) ?_
      refine lv_iconst (v := 2) hx hb dX6_mend_25 (by decide) ?_
      refine tc_refuses hC hI hT ⟨Nat.le_of_ble_eq_true rfl, Nat.le_of_ble_eq_true rfl⟩ ⟨Nat.zero_le _, Nat.zero_le _⟩ hl.1 (Nat.le_of_ble_eq_true rfl) dX6_mend_26 (fun r8 τ7 H locs hT hI => ?_)
      exact hret _ _ _ _ _ _ hT hI dX6_mend_29
    · have hT := hT.2 hc
      refine lv_aload_n hx hb dX6_mend_16 rfl (lv_at hl 0 rfl) ?_
      refine lv_iload_n hx hb dX6_mend_17 rfl (lv_at hl 1 rfl) ?_
      refine tc_isBroken hC hI hT ⟨Nat.le_of_ble_eq_true rfl, Nat.le_of_ble_eq_true rfl⟩ ⟨Nat.zero_le _, Nat.zero_le _⟩ hl.1 (Nat.le_of_ble_eq_true rfl) dX6_mend_18 (fun r10 τ9 H locs hT hI => ?_)
      refine lv_if_ne (tgt := 30) hx hb dX6_mend_21 (by decide) (fun hc => ?_) (fun hc => ?_)
      · have hT := hT.1 hc
        refine lv_aload_n hx hb dX6_mend_30 rfl (lv_at hl 0 rfl) ?_
        refine tc_keeps hC hI hT ⟨Nat.le_of_ble_eq_true rfl, Nat.le_of_ble_eq_true rfl⟩ ⟨Nat.zero_le _, Nat.zero_le _⟩ hl.1 (Nat.le_of_ble_eq_true rfl) dX6_mend_31 (fun τ11 H locs hT hI => ?_)
        refine lv_aload_n hx hb dX6_mend_34 rfl (lv_at hl 0 rfl) ?_
        refine lv_iload_n hx hb dX6_mend_35 rfl (lv_at hl 1 rfl) ?_
        refine lv_iload_n hx hb dX6_mend_36 rfl (lv_at hl 2 rfl) ?_
        refine tc_isMending hC hI hT ⟨Nat.le_of_ble_eq_true rfl, Nat.le_of_ble_eq_true rfl⟩ ⟨Nat.zero_le _, Nat.zero_le _⟩ hl.1 (Nat.le_of_ble_eq_true rfl) dX6_mend_37 (fun τ12 H locs hT hI => ?_)
        refine lv_aload_n hx hb dX6_mend_40 rfl (lv_at hl 0 rfl) ?_
        refine lv_iload_n hx hb dX6_mend_41 rfl (lv_at hl 1 rfl) ?_
        refine tc_glueOf hC hI hT ⟨Nat.le_of_ble_eq_true rfl, Nat.le_of_ble_eq_true rfl⟩ ⟨Nat.zero_le _, Nat.zero_le _⟩ hl.1 (Nat.le_of_ble_eq_true rfl) dX6_mend_42 (fun r14 τ13 H locs hT hI => ?_)
        exact hret _ _ _ _ _ _ hT hI dX6_mend_45
      · have hT := hT.2 hc
        refine lv_aload_n hx hb dX6_mend_24 rfl (lv_at hl 0 rfl) ?_
        refine lv_iconst (v := 2) hx hb dX6_mend_25 (by decide) ?_
        refine tc_refuses hC hI hT ⟨Nat.le_of_ble_eq_true rfl, Nat.le_of_ble_eq_true rfl⟩ ⟨Nat.zero_le _, Nat.zero_le _⟩ hl.1 (Nat.le_of_ble_eq_true rfl) dX6_mend_26 (fun r16 τ15 H locs hT hI => ?_)
        exact hret _ _ _ _ _ _ hT hI dX6_mend_29
set_option maxHeartbeats 4000000 in
set_option maxRecDepth 100000 in
theorem met_forge (l : Launch) (D : va_G) (dA : Nat → ClassId) (ad : Nat → Nat) (hJ : rgJ twL ad) (sz : Nat) (τ : Sto) (x1 : Int32) (K : Int32 → Sto → Prop) (hT : T_forge τ x1 K) : Met l yX6_forge (ws_ yX6_forge cX6_forge 2 (some .boolean)) ({ frames := 3, cells := 0, slots := 0, locals := 58 }) (va_Pc [.ref (ad 0), .int x1] (rgU D vwCl dA twL ad sz τ)) (va_Qi K (rgU D vwCl dA twL ad sz) (rgAd twL ad)) 0 0 (rgAd twL ad) := by
  refine tw_metz hJ (by decide) rfl (Nat.le_of_ble_eq_true rfl) ?_
  intro p e s m args below meth c Q hC hret hI ls hl
  have hx := hC.1.1
  have hb := hC.1.2.1
  have hl : lv_has ls 2 [(0, .ref (ad 0)), (1, .int x1)] := hl
  unfold T_forge at hT
  refine lv_aload_n hx hb dX6_forge_0 rfl (lv_at hl 0 rfl) ?_
  refine lv_iload_n hx hb dX6_forge_1 rfl (lv_at hl 1 rfl) ?_
  refine tc_isThing hC hI hT ⟨Nat.le_of_ble_eq_true rfl, Nat.le_of_ble_eq_true rfl⟩ ⟨Nat.zero_le _, Nat.zero_le _⟩ hl.1 (Nat.le_of_ble_eq_true rfl) dX6_forge_2 (fun r2 τ1 H locs hT hI => ?_)
  refine lv_if_eq (tgt := 16) hx hb dX6_forge_5 (by decide) (fun hc => ?_) (fun hc => ?_)
  · have hT := hT.1 hc
    refine lv_aload_n hx hb dX6_forge_16 rfl (lv_at hl 0 rfl) ?_
    refine tc_isRefused hC hI hT ⟨Nat.le_of_ble_eq_true rfl, Nat.le_of_ble_eq_true rfl⟩ ⟨Nat.zero_le _, Nat.zero_le _⟩ hl.1 (Nat.le_of_ble_eq_true rfl) dX6_forge_17 (fun r4 τ3 H locs hT hI => ?_)
    exact hret _ _ _ _ _ _ hT.1 hT.2 hI dX6_forge_20
  · have hT := hT.2 hc
    refine lv_aload_n hx hb dX6_forge_8 rfl (lv_at hl 0 rfl) ?_
    refine lv_iload_n hx hb dX6_forge_9 rfl (lv_at hl 1 rfl) ?_
    refine tc_stateOf hC hI hT ⟨Nat.le_of_ble_eq_true rfl, Nat.le_of_ble_eq_true rfl⟩ ⟨Nat.zero_le _, Nat.zero_le _⟩ hl.1 (Nat.le_of_ble_eq_true rfl) dX6_forge_10 (fun r6 τ5 H locs hT hI => ?_)
    refine lv_if_eq (tgt := 21) hx hb dX6_forge_13 (by decide) (fun hc => ?_) (fun hc => ?_)
    · have hT := hT.1 hc
      refine lv_aload_n hx hb dX6_forge_21 rfl (lv_at hl 0 rfl) ?_
      refine tc_keeps hC hI hT ⟨Nat.le_of_ble_eq_true rfl, Nat.le_of_ble_eq_true rfl⟩ ⟨Nat.zero_le _, Nat.zero_le _⟩ hl.1 (Nat.le_of_ble_eq_true rfl) dX6_forge_22 (fun τ7 H locs hT hI => ?_)
      refine lv_aload_n hx hb dX6_forge_25 rfl (lv_at hl 0 rfl) ?_
      refine tg_51 hC hI dX6_forge_26 ?_
      refine lv_iconst (v := 1) hx hb dX6_forge_29 (by decide) ?_
      refine lv_iconst (v := 5) hx hb dX6_forge_30 (by decide) ?_
      refine lv_iload_n hx hb dX6_forge_31 rfl (lv_at hl 1 rfl) ?_
      refine lv_imul hx hb dX6_forge_32 ?_
      refine lv_iadd hx hb dX6_forge_33 ?_
      refine lv_iconst (v := 2) hx hb dX6_forge_34 (by decide) ?_
      refine tw_iast hC hI tl_52 hT dX6_forge_35 (fun τ8 H locs hT hI => ?_)
      refine lv_aload_n hx hb dX6_forge_36 rfl (lv_at hl 0 rfl) ?_
      refine tg_51 hC hI dX6_forge_37 ?_
      refine lv_iconst (v := 4) hx hb dX6_forge_40 (by decide) ?_
      refine lv_iconst (v := 5) hx hb dX6_forge_41 (by decide) ?_
      refine lv_iload_n hx hb dX6_forge_42 rfl (lv_at hl 1 rfl) ?_
      refine lv_imul hx hb dX6_forge_43 ?_
      refine lv_iadd hx hb dX6_forge_44 ?_
      refine lv_bipush (v := 50) hx hb dX6_forge_45 (by decide) ?_
      refine tw_iast hC hI tl_52 hT dX6_forge_47 (fun τ9 H locs hT hI => ?_)
      refine lv_aload_n hx hb dX6_forge_48 rfl (lv_at hl 0 rfl) ?_
      refine tg_51 hC hI dX6_forge_49 ?_
      refine lv_iconst (v := 5) hx hb dX6_forge_52 (by decide) ?_
      refine lv_iconst (v := 5) hx hb dX6_forge_53 (by decide) ?_
      refine lv_iload_n hx hb dX6_forge_54 rfl (lv_at hl 1 rfl) ?_
      refine lv_imul hx hb dX6_forge_55 ?_
      refine lv_iadd hx hb dX6_forge_56 ?_
      refine lv_iconst (v := 1) hx hb dX6_forge_57 (by decide) ?_
      refine tw_iast hC hI tl_52 hT dX6_forge_58 (fun τ10 H locs hT hI => ?_)
      refine lv_iconst (v := 1) hx hb dX6_forge_59 (by decide) ?_
      exact hret _ _ _ _ _ _ (by decide) hT hI dX6_forge_60
    · have hT := hT.2 hc
      refine lv_aload_n hx hb dX6_forge_16 rfl (lv_at hl 0 rfl) ?_
      refine tc_isRefused hC hI hT ⟨Nat.le_of_ble_eq_true rfl, Nat.le_of_ble_eq_true rfl⟩ ⟨Nat.zero_le _, Nat.zero_le _⟩ hl.1 (Nat.le_of_ble_eq_true rfl) dX6_forge_17 (fun r12 τ11 H locs hT hI => ?_)
      exact hret _ _ _ _ _ _ hT.1 hT.2 hI dX6_forge_20
set_option maxHeartbeats 4000000 in
set_option maxRecDepth 100000 in
theorem met_days (l : Launch) (D : va_G) (dA : Nat → ClassId) (ad : Nat → Nat) (hJ : rgJ twL ad) (sz : Nat) (τ : Sto) (x1 : Int32) (K : Int32 → Sto → Prop) (hT : T_days τ x1 K) : Met l yX6_days (ws_ yX6_days cX6_days 2 (some .int)) ({ frames := 9, cells := 0, slots := 0, locals := 202 }) (va_Pc [.ref (ad 0), .int x1] (rgU D vwCl dA twL ad sz τ)) (va_Qi K (rgU D vwCl dA twL ad sz) (rgAd twL ad)) 0 0 (rgAd twL ad) := by
  refine tw_meti hJ (by decide) rfl (Nat.le_of_ble_eq_true rfl) ?_
  intro p e s m args below meth c Q hC hret hI ls hl
  have hx := hC.1.1
  have hb := hC.1.2.1
  have hl : lv_has ls 2 [(0, .ref (ad 0)), (1, .int x1)] := hl
  unfold T_days at hT
  refine lv_aload_n hx hb dX6_days_0 rfl (lv_at hl 0 rfl) ?_
  refine lv_iload_n hx hb dX6_days_1 rfl (lv_at hl 1 rfl) ?_
  refine lv_iconst (v := 1) hx hb dX6_days_2 (by decide) ?_
  refine lv_bipush (v := 100) hx hb dX6_days_3 (by decide) ?_
  refine tc_isAhead hC hI hT ⟨Nat.le_of_ble_eq_true rfl, Nat.le_of_ble_eq_true rfl⟩ ⟨Nat.zero_le _, Nat.zero_le _⟩ hl.1 (Nat.le_of_ble_eq_true rfl) dX6_days_5 (fun r2 τ1 H locs hT hI => ?_)
  refine lv_if_ne (tgt := 17) hx hb dX6_days_8 (by decide) (fun hc => ?_) (fun hc => ?_)
  · have hT := hT.1 hc
    refine lv_aload_n hx hb dX6_days_17 rfl (lv_at hl 0 rfl) ?_
    refine tc_keeps hC hI hT ⟨Nat.le_of_ble_eq_true rfl, Nat.le_of_ble_eq_true rfl⟩ ⟨Nat.zero_le _, Nat.zero_le _⟩ hl.1 (Nat.le_of_ble_eq_true rfl) dX6_days_18 (fun τ3 H locs hT hI => ?_)
    refine lv_aload_n hx hb dX6_days_21 rfl (lv_at hl 0 rfl) ?_
    refine lv_iconst (v := 0) hx hb dX6_days_22 (by decide) ?_
    refine tp_58 hC hI hT dX6_days_23 (fun τ4 H locs hT hI => ?_)
    refine lv_aload_n hx hb dX6_days_26 rfl (lv_at hl 0 rfl) ?_
    refine lv_iload_n hx hb dX6_days_27 rfl (lv_at hl 1 rfl) ?_
    refine tc_daysGo hC hI hT ⟨Nat.le_of_ble_eq_true rfl, Nat.le_of_ble_eq_true rfl⟩ ⟨Nat.zero_le _, Nat.zero_le _⟩ hl.1 (Nat.le_of_ble_eq_true rfl) dX6_days_28 (fun τ5 H locs hT hI => ?_)
    refine lv_aload_n hx hb dX6_days_31 rfl (lv_at hl 0 rfl) ?_
    refine tg_58 hC hI dX6_days_32 ?_
    exact hret _ _ _ _ _ _ hT hI dX6_days_35
  · have hT := hT.2 hc
    refine lv_aload_n hx hb dX6_days_11 rfl (lv_at hl 0 rfl) ?_
    refine lv_iconst (v := 3) hx hb dX6_days_12 (by decide) ?_
    refine tc_refuses hC hI hT ⟨Nat.le_of_ble_eq_true rfl, Nat.le_of_ble_eq_true rfl⟩ ⟨Nat.zero_le _, Nat.zero_le _⟩ hl.1 (Nat.le_of_ble_eq_true rfl) dX6_days_13 (fun r7 τ6 H locs hT hI => ?_)
    exact hret _ _ _ _ _ _ hT hI dX6_days_16
set_option maxHeartbeats 4000000 in
set_option maxRecDepth 100000 in
theorem met_seed (l : Launch) (D : va_G) (dA : Nat → ClassId) (ad : Nat → Nat) (hJ : rgJ twL ad) (sz : Nat) (τ : Sto) (x1 : Int32) (K : Int32 → Sto → Prop) (hT : T_seed τ x1 K) : Met l yX6_seed (ws_ yX6_seed cX6_seed 2 (some .boolean)) ({ frames := 1, cells := 0, slots := 0, locals := 12 }) (va_Pc [.ref (ad 0), .int x1] (rgU D vwCl dA twL ad sz τ)) (va_Qi K (rgU D vwCl dA twL ad sz) (rgAd twL ad)) 0 0 (rgAd twL ad) := by
  refine tw_metz hJ (by decide) rfl (Nat.le_of_ble_eq_true rfl) ?_
  intro p e s m args below meth c Q hC hret hI ls hl
  have hx := hC.1.1
  have hb := hC.1.2.1
  have hl : lv_has ls 2 [(0, .ref (ad 0)), (1, .int x1)] := hl
  unfold T_seed at hT
  refine lv_iload_n hx hb dX6_seed_0 rfl (lv_at hl 1 rfl) ?_
  refine lv_if_ge (tgt := 16) hx hb dX6_seed_1 (by decide) (fun hc => ?_) (fun hc => ?_)
  · have hT := hT.1 hc
    refine lv_aload_n hx hb dX6_seed_16 rfl (lv_at hl 0 rfl) ?_
    refine lv_iload_n hx hb dX6_seed_17 rfl (lv_at hl 1 rfl) ?_
    refine lv_i2l hx hb dX6_seed_18 rfl ?_
    refine tp_67 hC hI hT dX6_seed_19 (fun τ1 H locs hT hI => ?_)
    refine lv_iconst (v := 1) hx hb dX6_seed_22 (by decide) ?_
    exact hret _ _ _ _ _ _ (by decide) hT hI dX6_seed_23
  · have hT := hT.2 hc
    refine lv_aload_n hx hb dX6_seed_4 rfl (lv_at hl 0 rfl) ?_
    refine tg_9 hC hI dX6_seed_5 ?_
    refine lv_iconst (v := 5) hx hb dX6_seed_8 (by decide) ?_
    refine lv_dup2_11 hx hb dX6_seed_9 rfl rfl ?_
    refine tw_iald hC hI tl_10 hT dX6_seed_10 (fun hT => ?_)
    refine lv_iconst (v := 1) hx hb dX6_seed_11 (by decide) ?_
    refine lv_iadd hx hb dX6_seed_12 ?_
    refine tw_iast hC hI tl_10 hT dX6_seed_13 (fun τ2 H locs hT hI => ?_)
    refine lv_iconst (v := 0) hx hb dX6_seed_14 (by decide) ?_
    exact hret _ _ _ _ _ _ (by decide) hT hI dX6_seed_15
set_option maxHeartbeats 4000000 in
set_option maxRecDepth 100000 in
theorem met_drawOf (l : Launch) (D : va_G) (dA : Nat → ClassId) (ad : Nat → Nat) (hJ : rgJ twL ad) (sz : Nat) (τ : Sto) (x1 : Int32) (K : Int32 → Sto → Prop) (hT : T_drawOf τ x1 K) : Met l yX6_drawOf (ws_ yX6_drawOf cX6_drawOf 2 (some .int)) ({ frames := 1, cells := 0, slots := 0, locals := 12 }) (va_Pc [.ref (ad 0), .int x1] (rgU D vwCl dA twL ad sz τ)) (va_Qi K (rgU D vwCl dA twL ad sz) (rgAd twL ad)) 0 0 (rgAd twL ad) := by
  refine tw_meti hJ (by decide) rfl (Nat.le_of_ble_eq_true rfl) ?_
  intro p e s m args below meth c Q hC hret hI ls hl
  have hx := hC.1.1
  have hb := hC.1.2.1
  have hl : lv_has ls 2 [(0, .ref (ad 0)), (1, .int x1)] := hl
  unfold T_drawOf at hT
  refine lv_aload_n hx hb dX6_drawOf_0 rfl (lv_at hl 0 rfl) ?_
  refine lv_ldc2 hx hb hC.1.2.2.2.1 (hC.1.2.2.2.2 _ q2512) dX6_drawOf_1 ?_
  refine lv_aload_n hx hb dX6_drawOf_4 rfl (lv_at hl 0 rfl) ?_
  refine tg_67 hC hI dX6_drawOf_5 ?_
  refine lv_lmul hx hb dX6_drawOf_8 ?_
  refine lv_ldc2 hx hb hC.1.2.2.2.1 (hC.1.2.2.2.2 _ q2513) dX6_drawOf_9 ?_
  refine lv_ladd hx hb dX6_drawOf_12 ?_
  refine lv_ldc2 hx hb hC.1.2.2.2.1 (hC.1.2.2.2.2 _ q2514) dX6_drawOf_13 ?_
  refine lv_lrem hx hb dX6_drawOf_16 (by decide) ?_
  refine tp_67 hC hI hT dX6_drawOf_17 (fun τ1 H locs hT hI => ?_)
  refine lv_aload_n hx hb dX6_drawOf_20 rfl (lv_at hl 0 rfl) ?_
  refine tg_67 hC hI dX6_drawOf_21 ?_
  refine lv_ldc2 hx hb hC.1.2.2.2.1 (hC.1.2.2.2.2 _ q2515) dX6_drawOf_24 ?_
  refine lv_ldiv hx hb dX6_drawOf_27 (by decide) ?_
  refine lv_iload_n hx hb dX6_drawOf_28 rfl (lv_at hl 1 rfl) ?_
  refine lv_i2l hx hb dX6_drawOf_29 rfl ?_
  refine lv_lrem hx hb dX6_drawOf_30 hT.1 ?_
  have hT := hT.2
  refine lv_l2i hx hb dX6_drawOf_31 rfl ?_
  exact hret _ _ _ _ _ _ hT hI dX6_drawOf_32
theorem tc_drawOf {p : Program} {l : Launch} {e : Env} {R : Room} {s : State} {m : MethodId} {args : Array Value} {below : List Frame} {meth : Method} {c : Code} {H : Heap} {locs : List Loc} {cells slots : Nat} {Q : State → Prop} {cc : ByteArray} {nL : Nat} {D : va_G} {dA : Nat → ClassId} {ad : Nat → Nat} {τ : Sto} {pc sz : Nat} {ls : Array Slot} {rest : List Value} {H0 : Heap} {x1 : Int32} {K : Int32 → Sto → Prop} (hC : tC p m c cc nL s args D dA ad) (hI : tI D dA ad sz H0 τ H locs) (hT : T_drawOf τ x1 K) (hR : 1 + 1 ≤ R.frames ∧ 8 + (2 + 11) + 12 ≤ R.locals) (hf : cells ≤ R.cells ∧ slots ≤ R.slots) (hsz : ls.size = nL) (hroom : (rest.map fun v => v.category).sum ≤ 8) (hdg : decode cc pc = .ok (.invokevirtual 587, 3)) (kk : ∀ (r : Int32) (τ1 : Sto) (H1 : Heap) (locs1 : List Loc), K r τ1 → tI D dA ad sz H0 τ1 H1 locs1 → W p l e R s m args below meth c H1 locs1 cells slots Q (F0 m (pc + 3) ls (.int r :: rest))) : W p l e R s m args below meth c H locs cells slots Q (F0 m pc ls (.int x1 :: .ref (ad 0) :: rest)) :=
  rg_calli (rg_runV hC.1 hC.2.1 hI.1 hI.2.1 tl_0 rfl (met_drawOf l D dA ad hC.2.2 sz τ x1 K hT) (lw_V q2508 q2510 qs149 q170 q2511) 1 (by decide +kernel) ⟨rfl, rfl⟩ hR rfl hsz rfl hroom hf hdg) hI.2.2 (fun r τ1 H1 l1 hk hz hP hS => kk r τ1 H1 l1 hk ⟨hP, hz, hS⟩)
set_option maxHeartbeats 4000000 in
set_option maxRecDepth 100000 in
theorem met_chance (l : Launch) (D : va_G) (dA : Nat → ClassId) (ad : Nat → Nat) (hJ : rgJ twL ad) (sz : Nat) (τ : Sto) (x1 : Int32) (K : Int32 → Sto → Prop) (hT : T_chance τ x1 K) : Met l yX6_chance (ws_ yX6_chance cX6_chance 5 (some .int)) ({ frames := 8, cells := 0, slots := 0, locals := 180 }) (va_Pc [.ref (ad 0), .int x1] (rgU D vwCl dA twL ad sz τ)) (va_Qi K (rgU D vwCl dA twL ad sz) (rgAd twL ad)) 0 0 (rgAd twL ad) := by
  refine tw_meti hJ (by decide) rfl (Nat.le_of_ble_eq_true rfl) ?_
  intro p e s m args below meth c Q hC hret hI ls hl
  have hx := hC.1.1
  have hb := hC.1.2.1
  have hl : lv_has ls 5 [(0, .ref (ad 0)), (1, .int x1)] := hl
  have w_25 : ∀ (x1 : Int32) (n : Nat) (x2 : Int32) (x3 : Int32) (τ : Sto) (H : Heap) (locs : List Loc) (ls : Array Slot), T_chance_25 K x1 n x2 x3 τ → tI D dA ad sz s.heap τ H locs → lv_has ls 5 [(0, .ref (ad 0)), (1, .int x1), (2, .int x2), (3, .int x3)] → W p l e ({ frames := 8, cells := 0, slots := 0, locals := 180 }) s m args below meth c H locs 0 0 Q (F0 m 25 ls []) := by
    intro x1 n
    induction n with
    | zero => intro x2 x3 τ H locs ls hT; exact hT.elim
    | succ n ih =>
      intro x2 x3 τ H locs ls hT hI hl
      unfold T_chance_25 at hT
      refine lv_iload_n hx hb dX6_chance_25 rfl (lv_at hl 3 rfl) ?_
      refine lv_iload_n hx hb dX6_chance_26 rfl (lv_at hl 1 rfl) ?_
      refine lv_icmp_ge (tgt := 88) hx hb dX6_chance_27 (by decide) (fun hc => ?_) (fun hc => ?_)
      · have hT := hT.1 hc
        refine lv_iload_n hx hb dX6_chance_88 rfl (lv_at hl 2 rfl) ?_
        exact hret _ _ _ _ _ _ hT hI dX6_chance_89
      · have hT := hT.2 hc
        refine lv_aload_n hx hb dX6_chance_30 rfl (lv_at hl 0 rfl) ?_
        refine lv_bipush (v := 100) hx hb dX6_chance_31 (by decide) ?_
        refine tc_drawOf hC hI hT ⟨Nat.le_of_ble_eq_true rfl, Nat.le_of_ble_eq_true rfl⟩ ⟨Nat.zero_le _, Nat.zero_le _⟩ hl.1 (Nat.le_of_ble_eq_true rfl) dX6_chance_33 (fun r2 τ1 H locs hT hI => ?_)
        refine lv_aload_n hx hb dX6_chance_36 rfl (lv_at hl 0 rfl) ?_
        refine tg_44 hC hI dX6_chance_37 ?_
        refine lv_icmp_ge (tgt := 78) hx hb dX6_chance_40 (by decide) (fun hc => ?_) (fun hc => ?_)
        · have hT := hT.1 hc
          refine lv_aload_n hx hb dX6_chance_78 rfl (lv_at hl 0 rfl) ?_
          refine tc_dayGoes hC hI hT ⟨Nat.le_of_ble_eq_true rfl, Nat.le_of_ble_eq_true rfl⟩ ⟨Nat.zero_le _, Nat.zero_le _⟩ hl.1 (Nat.le_of_ble_eq_true rfl) dX6_chance_79 (fun τ3 H locs hT hI => ?_)
          refine lv_iinc (v := x3 + 1) (lv' := [(3, .int (x3 + 1)), (0, .ref (ad 0)), (1, .int x1), (2, .int x2)]) hx hb dX6_chance_82 hl (k := 3) rfl rfl (Nat.le_of_ble_eq_true rfl) rfl (fun ls hl => ?_)
          refine lv_goto (tgt := 25) hx hb dX6_chance_85 (by decide) ?_
          exact ih x2 (x3 + 1) τ3 _ _ _ hT hI (lv_sub hl [1, 2, 3, 0] rfl)
        · have hT := hT.2 hc
          refine lv_aload_n hx hb dX6_chance_43 rfl (lv_at hl 0 rfl) ?_
          refine tc_thingMany hC hI hT ⟨Nat.le_of_ble_eq_true rfl, Nat.le_of_ble_eq_true rfl⟩ ⟨Nat.zero_le _, Nat.zero_le _⟩ hl.1 (Nat.le_of_ble_eq_true rfl) dX6_chance_44 (fun r5 τ4 H locs hT hI => ?_)
          refine lv_if_le (tgt := 78) hx hb dX6_chance_47 (by decide) (fun hc => ?_) (fun hc => ?_)
          · have hT := hT.1 hc
            refine lv_aload_n hx hb dX6_chance_78 rfl (lv_at hl 0 rfl) ?_
            refine tc_dayGoes hC hI hT ⟨Nat.le_of_ble_eq_true rfl, Nat.le_of_ble_eq_true rfl⟩ ⟨Nat.zero_le _, Nat.zero_le _⟩ hl.1 (Nat.le_of_ble_eq_true rfl) dX6_chance_79 (fun τ6 H locs hT hI => ?_)
            refine lv_iinc (v := x3 + 1) (lv' := [(3, .int (x3 + 1)), (0, .ref (ad 0)), (1, .int x1), (2, .int x2)]) hx hb dX6_chance_82 hl (k := 3) rfl rfl (Nat.le_of_ble_eq_true rfl) rfl (fun ls hl => ?_)
            refine lv_goto (tgt := 25) hx hb dX6_chance_85 (by decide) ?_
            exact ih x2 (x3 + 1) τ6 _ _ _ hT hI (lv_sub hl [1, 2, 3, 0] rfl)
          · have hT := hT.2 hc
            refine lv_aload_n hx hb dX6_chance_50 rfl (lv_at hl 0 rfl) ?_
            refine lv_aload_n hx hb dX6_chance_51 rfl (lv_at hl 0 rfl) ?_
            refine tc_thingMany hC hI hT ⟨Nat.le_of_ble_eq_true rfl, Nat.le_of_ble_eq_true rfl⟩ ⟨Nat.zero_le _, Nat.zero_le _⟩ hl.1 (Nat.le_of_ble_eq_true rfl) dX6_chance_52 (fun r8 τ7 H locs hT hI => ?_)
            refine tc_drawOf hC hI hT ⟨Nat.le_of_ble_eq_true rfl, Nat.le_of_ble_eq_true rfl⟩ ⟨Nat.zero_le _, Nat.zero_le _⟩ hl.1 (Nat.le_of_ble_eq_true rfl) dX6_chance_55 (fun r10 τ9 H locs hT hI => ?_)
            refine lv_istore (lv' := [(4, .int r10), (0, .ref (ad 0)), (1, .int x1), (2, .int x2), (3, .int x3)]) hx hb dX6_chance_58 hl (Nat.le_of_ble_eq_true rfl) rfl (fun ls hl => ?_)
            refine lv_aload_n hx hb dX6_chance_60 rfl (lv_at hl 1 rfl) ?_
            refine lv_iload hx hb dX6_chance_61 (lv_at hl 0 rfl) ?_
            refine tc_isBroken hC hI hT ⟨Nat.le_of_ble_eq_true rfl, Nat.le_of_ble_eq_true rfl⟩ ⟨Nat.zero_le _, Nat.zero_le _⟩ hl.1 (Nat.le_of_ble_eq_true rfl) dX6_chance_63 (fun r12 τ11 H locs hT hI => ?_)
            refine lv_if_ne (tgt := 75) hx hb dX6_chance_66 (by decide) (fun hc => ?_) (fun hc => ?_)
            · have hT := hT.1 hc
              refine lv_iinc (v := x2 + 1) (lv' := [(2, .int (x2 + 1)), (4, .int r10), (0, .ref (ad 0)), (1, .int x1), (3, .int x3)]) hx hb dX6_chance_75 hl (k := 3) rfl rfl (Nat.le_of_ble_eq_true rfl) rfl (fun ls hl => ?_)
              refine lv_aload_n hx hb dX6_chance_78 rfl (lv_at hl 2 rfl) ?_
              refine tc_dayGoes hC hI hT ⟨Nat.le_of_ble_eq_true rfl, Nat.le_of_ble_eq_true rfl⟩ ⟨Nat.zero_le _, Nat.zero_le _⟩ hl.1 (Nat.le_of_ble_eq_true rfl) dX6_chance_79 (fun τ13 H locs hT hI => ?_)
              refine lv_iinc (v := x3 + 1) (lv' := [(3, .int (x3 + 1)), (2, .int (x2 + 1)), (4, .int r10), (0, .ref (ad 0)), (1, .int x1)]) hx hb dX6_chance_82 hl (k := 4) rfl rfl (Nat.le_of_ble_eq_true rfl) rfl (fun ls hl => ?_)
              refine lv_goto (tgt := 25) hx hb dX6_chance_85 (by decide) ?_
              exact ih (x2 + 1) (x3 + 1) τ13 _ _ _ hT hI (lv_sub hl [3, 4, 1, 0] rfl)
            · have hT := hT.2 hc
              refine lv_aload_n hx hb dX6_chance_69 rfl (lv_at hl 1 rfl) ?_
              refine lv_iload hx hb dX6_chance_70 (lv_at hl 0 rfl) ?_
              refine tc_isBreaking hC hI hT ⟨Nat.le_of_ble_eq_true rfl, Nat.le_of_ble_eq_true rfl⟩ ⟨Nat.zero_le _, Nat.zero_le _⟩ hl.1 (Nat.le_of_ble_eq_true rfl) dX6_chance_72 (fun τ14 H locs hT hI => ?_)
              refine lv_iinc (v := x2 + 1) (lv' := [(2, .int (x2 + 1)), (4, .int r10), (0, .ref (ad 0)), (1, .int x1), (3, .int x3)]) hx hb dX6_chance_75 hl (k := 3) rfl rfl (Nat.le_of_ble_eq_true rfl) rfl (fun ls hl => ?_)
              refine lv_aload_n hx hb dX6_chance_78 rfl (lv_at hl 2 rfl) ?_
              refine tc_dayGoes hC hI hT ⟨Nat.le_of_ble_eq_true rfl, Nat.le_of_ble_eq_true rfl⟩ ⟨Nat.zero_le _, Nat.zero_le _⟩ hl.1 (Nat.le_of_ble_eq_true rfl) dX6_chance_79 (fun τ15 H locs hT hI => ?_)
              refine lv_iinc (v := x3 + 1) (lv' := [(3, .int (x3 + 1)), (2, .int (x2 + 1)), (4, .int r10), (0, .ref (ad 0)), (1, .int x1)]) hx hb dX6_chance_82 hl (k := 4) rfl rfl (Nat.le_of_ble_eq_true rfl) rfl (fun ls hl => ?_)
              refine lv_goto (tgt := 25) hx hb dX6_chance_85 (by decide) ?_
              exact ih (x2 + 1) (x3 + 1) τ15 _ _ _ hT hI (lv_sub hl [3, 4, 1, 0] rfl)
  unfold T_chance at hT
  refine lv_aload_n hx hb dX6_chance_0 rfl (lv_at hl 0 rfl) ?_
  refine lv_iload_n hx hb dX6_chance_1 rfl (lv_at hl 1 rfl) ?_
  refine lv_iconst (v := 1) hx hb dX6_chance_2 (by decide) ?_
  refine lv_bipush (v := 100) hx hb dX6_chance_3 (by decide) ?_
  refine tc_isAhead hC hI hT ⟨Nat.le_of_ble_eq_true rfl, Nat.le_of_ble_eq_true rfl⟩ ⟨Nat.zero_le _, Nat.zero_le _⟩ hl.1 (Nat.le_of_ble_eq_true rfl) dX6_chance_5 (fun r17 τ16 H locs hT hI => ?_)
  refine lv_if_ne (tgt := 17) hx hb dX6_chance_8 (by decide) (fun hc => ?_) (fun hc => ?_)
  · have hT := hT.1 hc
    refine lv_aload_n hx hb dX6_chance_17 rfl (lv_at hl 0 rfl) ?_
    refine tc_keeps hC hI hT ⟨Nat.le_of_ble_eq_true rfl, Nat.le_of_ble_eq_true rfl⟩ ⟨Nat.zero_le _, Nat.zero_le _⟩ hl.1 (Nat.le_of_ble_eq_true rfl) dX6_chance_18 (fun τ18 H locs hT hI => ?_)
    refine lv_iconst (v := 0) hx hb dX6_chance_21 (by decide) ?_
    refine lv_istore_n (lv' := [(2, .int 0), (0, .ref (ad 0)), (1, .int x1)]) hx hb dX6_chance_22 rfl hl (Nat.le_of_ble_eq_true rfl) rfl (fun ls hl => ?_)
    refine lv_iconst (v := 0) hx hb dX6_chance_23 (by decide) ?_
    refine lv_istore_n (lv' := [(3, .int 0), (2, .int 0), (0, .ref (ad 0)), (1, .int x1)]) hx hb dX6_chance_24 rfl hl (Nat.le_of_ble_eq_true rfl) rfl (fun ls hl => ?_)
    obtain ⟨n25, hT⟩ := hT
    exact w_25 x1 n25 0 0 τ18 _ _ _ hT hI (lv_sub hl [2, 3, 1, 0] rfl)
  · have hT := hT.2 hc
    refine lv_aload_n hx hb dX6_chance_11 rfl (lv_at hl 0 rfl) ?_
    refine lv_iconst (v := 3) hx hb dX6_chance_12 (by decide) ?_
    refine tc_refuses hC hI hT ⟨Nat.le_of_ble_eq_true rfl, Nat.le_of_ble_eq_true rfl⟩ ⟨Nat.zero_le _, Nat.zero_le _⟩ hl.1 (Nat.le_of_ble_eq_true rfl) dX6_chance_13 (fun r20 τ19 H locs hT hI => ?_)
    exact hret _ _ _ _ _ _ hT hI dX6_chance_16
set_option maxHeartbeats 4000000 in
set_option maxRecDepth 100000 in
theorem met_qKind (l : Launch) (D : va_G) (dA : Nat → ClassId) (ad : Nat → Nat) (hJ : rgJ twL ad) (sz : Nat) (τ : Sto) (K : Int32 → Sto → Prop) (hT : T_qKind τ K) : Met l yX6_qKind (ws_ yX6_qKind cX6_qKind 2 (some .int)) ({ frames := 5, cells := 0, slots := 0, locals := 97 }) (va_Pc [.ref (ad 0)] (rgU D vwCl dA twL ad sz τ)) (va_Qi K (rgU D vwCl dA twL ad sz) (rgAd twL ad)) 0 0 (rgAd twL ad) := by
  refine tw_meti hJ (by decide) rfl (Nat.le_of_ble_eq_true rfl) ?_
  intro p e s m args below meth c Q hC hret hI ls hl
  have hx := hC.1.1
  have hb := hC.1.2.1
  have hl : lv_has ls 2 [(0, .ref (ad 0))] := hl
  have w_76 : ∀ (s0 : Int32) (τ : Sto) (H : Heap) (locs : List Loc) (ls : Array Slot), T_qKind_76 K s0 τ → tI D dA ad sz s.heap τ H locs → lv_has ls 2 [(0, .ref (ad 0))] → W p l e ({ frames := 5, cells := 0, slots := 0, locals := 97 }) s m args below meth c H locs 0 0 Q (F0 m 76 ls [.int s0]) := by
    intro s0 τ H locs ls hT hI hl
    unfold T_qKind_76 at hT
    refine lv_istore_n (lv' := [(1, .int s0), (0, .ref (ad 0))]) hx hb dX6_qKind_76 rfl hl (Nat.le_of_ble_eq_true rfl) rfl (fun ls hl => ?_)
    refine lv_iload_n hx hb dX6_qKind_77 rfl (lv_at hl 0 rfl) ?_
    refine lv_iconst (v := 5) hx hb dX6_qKind_78 (by decide) ?_
    refine lv_icmp_ne (tgt := 90) hx hb dX6_qKind_79 (by decide) (fun hc => ?_) (fun hc => ?_)
    · have hT := hT.1 hc
      refine lv_iload_n hx hb dX6_qKind_90 rfl (lv_at hl 0 rfl) ?_
      exact hret _ _ _ _ _ _ hT hI dX6_qKind_91
    · have hT := hT.2 hc
      refine lv_aload_n hx hb dX6_qKind_82 rfl (lv_at hl 1 rfl) ?_
      refine lv_aload_n hx hb dX6_qKind_83 rfl (lv_at hl 1 rfl) ?_
      refine tg_73 hC hI dX6_qKind_84 ?_
      refine tc_asks hC hI hT ⟨Nat.le_of_ble_eq_true rfl, Nat.le_of_ble_eq_true rfl⟩ ⟨Nat.zero_le _, Nat.zero_le _⟩ hl.1 (Nat.le_of_ble_eq_true rfl) dX6_qKind_87 (fun τ1 H locs hT hI => ?_)
      refine lv_iload_n hx hb dX6_qKind_90 rfl (lv_at hl 0 rfl) ?_
      exact hret _ _ _ _ _ _ hT hI dX6_qKind_91
  unfold T_qKind at hT
  refine lv_aload_n hx hb dX6_qKind_0 rfl (lv_at hl 0 rfl) ?_
  refine lv_aload_n hx hb dX6_qKind_1 rfl (lv_at hl 0 rfl) ?_
  refine tg_68 hC hI dX6_qKind_2 ?_
  refine tc_eats hC hI hT ⟨Nat.le_of_ble_eq_true rfl, Nat.le_of_ble_eq_true rfl⟩ ⟨Nat.zero_le _, Nat.zero_le _⟩ hl.1 (Nat.le_of_ble_eq_true rfl) dX6_qKind_5 (fun r3 τ2 H locs hT hI => ?_)
  refine lv_if_eq (tgt := 15) hx hb dX6_qKind_8 (by decide) (fun hc => ?_) (fun hc => ?_)
  · have hT := hT.1 hc
    refine lv_aload_n hx hb dX6_qKind_15 rfl (lv_at hl 0 rfl) ?_
    refine lv_aload_n hx hb dX6_qKind_16 rfl (lv_at hl 0 rfl) ?_
    refine tg_69 hC hI dX6_qKind_17 ?_
    refine tc_eats hC hI hT ⟨Nat.le_of_ble_eq_true rfl, Nat.le_of_ble_eq_true rfl⟩ ⟨Nat.zero_le _, Nat.zero_le _⟩ hl.1 (Nat.le_of_ble_eq_true rfl) dX6_qKind_20 (fun r5 τ4 H locs hT hI => ?_)
    refine lv_if_eq (tgt := 30) hx hb dX6_qKind_23 (by decide) (fun hc => ?_) (fun hc => ?_)
    · have hT := hT.1 hc
      refine lv_aload_n hx hb dX6_qKind_30 rfl (lv_at hl 0 rfl) ?_
      refine lv_aload_n hx hb dX6_qKind_31 rfl (lv_at hl 0 rfl) ?_
      refine tg_70 hC hI dX6_qKind_32 ?_
      refine tc_eats hC hI hT ⟨Nat.le_of_ble_eq_true rfl, Nat.le_of_ble_eq_true rfl⟩ ⟨Nat.zero_le _, Nat.zero_le _⟩ hl.1 (Nat.le_of_ble_eq_true rfl) dX6_qKind_35 (fun r7 τ6 H locs hT hI => ?_)
      refine lv_if_eq (tgt := 45) hx hb dX6_qKind_38 (by decide) (fun hc => ?_) (fun hc => ?_)
      · have hT := hT.1 hc
        refine lv_aload_n hx hb dX6_qKind_45 rfl (lv_at hl 0 rfl) ?_
        refine lv_aload_n hx hb dX6_qKind_46 rfl (lv_at hl 0 rfl) ?_
        refine tg_71 hC hI dX6_qKind_47 ?_
        refine tc_eats hC hI hT ⟨Nat.le_of_ble_eq_true rfl, Nat.le_of_ble_eq_true rfl⟩ ⟨Nat.zero_le _, Nat.zero_le _⟩ hl.1 (Nat.le_of_ble_eq_true rfl) dX6_qKind_50 (fun r9 τ8 H locs hT hI => ?_)
        refine lv_if_eq (tgt := 60) hx hb dX6_qKind_53 (by decide) (fun hc => ?_) (fun hc => ?_)
        · have hT := hT.1 hc
          refine lv_aload_n hx hb dX6_qKind_60 rfl (lv_at hl 0 rfl) ?_
          refine lv_aload_n hx hb dX6_qKind_61 rfl (lv_at hl 0 rfl) ?_
          refine tg_72 hC hI dX6_qKind_62 ?_
          refine tc_eats hC hI hT ⟨Nat.le_of_ble_eq_true rfl, Nat.le_of_ble_eq_true rfl⟩ ⟨Nat.zero_le _, Nat.zero_le _⟩ hl.1 (Nat.le_of_ble_eq_true rfl) dX6_qKind_65 (fun r11 τ10 H locs hT hI => ?_)
          refine lv_if_eq (tgt := 75) hx hb dX6_qKind_68 (by decide) (fun hc => ?_) (fun hc => ?_)
          · have hT := hT.1 hc
            refine lv_iconst (v := 5) hx hb dX6_qKind_75 (by decide) ?_
            exact w_76 5 τ10 _ _ _ hT hI (lv_sub hl [0] rfl)
          · have hT := hT.2 hc
            refine lv_iconst (v := 4) hx hb dX6_qKind_71 (by decide) ?_
            refine lv_goto (tgt := 76) hx hb dX6_qKind_72 (by decide) ?_
            exact w_76 4 τ10 _ _ _ hT hI (lv_sub hl [0] rfl)
        · have hT := hT.2 hc
          refine lv_iconst (v := 3) hx hb dX6_qKind_56 (by decide) ?_
          refine lv_goto (tgt := 76) hx hb dX6_qKind_57 (by decide) ?_
          exact w_76 3 τ8 _ _ _ hT hI (lv_sub hl [0] rfl)
      · have hT := hT.2 hc
        refine lv_iconst (v := 2) hx hb dX6_qKind_41 (by decide) ?_
        refine lv_goto (tgt := 76) hx hb dX6_qKind_42 (by decide) ?_
        exact w_76 2 τ6 _ _ _ hT hI (lv_sub hl [0] rfl)
    · have hT := hT.2 hc
      refine lv_iconst (v := 1) hx hb dX6_qKind_26 (by decide) ?_
      refine lv_goto (tgt := 76) hx hb dX6_qKind_27 (by decide) ?_
      exact w_76 1 τ4 _ _ _ hT hI (lv_sub hl [0] rfl)
  · have hT := hT.2 hc
    refine lv_iconst (v := 0) hx hb dX6_qKind_11 (by decide) ?_
    refine lv_goto (tgt := 76) hx hb dX6_qKind_12 (by decide) ?_
    exact w_76 0 τ2 _ _ _ hT hI (lv_sub hl [0] rfl)
theorem tc_qKind {p : Program} {l : Launch} {e : Env} {R : Room} {s : State} {m : MethodId} {args : Array Value} {below : List Frame} {meth : Method} {c : Code} {H : Heap} {locs : List Loc} {cells slots : Nat} {Q : State → Prop} {cc : ByteArray} {nL : Nat} {D : va_G} {dA : Nat → ClassId} {ad : Nat → Nat} {τ : Sto} {pc sz : Nat} {ls : Array Slot} {rest : List Value} {H0 : Heap} {K : Int32 → Sto → Prop} (hC : tC p m c cc nL s args D dA ad) (hI : tI D dA ad sz H0 τ H locs) (hT : T_qKind τ K) (hR : 5 + 1 ≤ R.frames ∧ 8 + (2 + 11) + 97 ≤ R.locals) (hf : cells ≤ R.cells ∧ slots ≤ R.slots) (hsz : ls.size = nL) (hroom : (rest.map fun v => v.category).sum ≤ 8) (hdg : decode cc pc = .ok (.invokevirtual 669, 3)) (kk : ∀ (r : Int32) (τ1 : Sto) (H1 : Heap) (locs1 : List Loc), K r τ1 → tI D dA ad sz H0 τ1 H1 locs1 → W p l e R s m args below meth c H1 locs1 cells slots Q (F0 m (pc + 3) ls (.int r :: rest))) : W p l e R s m args below meth c H locs cells slots Q (F0 m pc ls (.ref (ad 0) :: rest)) :=
  rg_calli (rg_runV hC.1 hC.2.1 hI.1 hI.2.1 tl_0 rfl (met_qKind l D dA ad hC.2.2 sz τ K hT) (lw_V q2520 q2522 qs150 q170 q2523) 0 (by decide +kernel) ⟨rfl, rfl⟩ hR rfl hsz rfl hroom hf hdg) hI.2.2 (fun r τ1 H1 l1 hk hz hP hS => kk r τ1 H1 l1 hk ⟨hP, hz, hS⟩)
set_option maxHeartbeats 4000000 in
set_option maxRecDepth 100000 in
theorem met_qOf (l : Launch) (D : va_G) (dA : Nat → ClassId) (ad : Nat → Nat) (hJ : rgJ twL ad) (sz : Nat) (τ : Sto) (x1 : Int32) (x2 : Int64) (x4 : Int32) (K : Int64 → Sto → Prop) (hT : T_qOf τ x1 x2 x4 K) : Met l yX6_qOf (ws_ yX6_qOf cX6_qOf 5 (some .long)) ({ frames := 2, cells := 0, slots := 0, locals := 37 }) (va_Pc [.ref (ad 0), .int x1, .long x2, .int x4] (rgU D vwCl dA twL ad sz τ)) (va_Ql K (rgU D vwCl dA twL ad sz) (rgAd twL ad)) 0 0 (rgAd twL ad) := by
  refine tw_metl hJ (by decide) rfl (Nat.le_of_ble_eq_true rfl) ?_
  intro p e s m args below meth c Q hC hret hI ls hl
  have hx := hC.1.1
  have hb := hC.1.2.1
  have hl : lv_has ls 5 [(0, .ref (ad 0)), (1, .int x1), (2, .long x2), (4, .int x4)] := hl
  unfold T_qOf at hT
  refine lv_iload_n hx hb dX6_qOf_0 rfl (lv_at hl 1 rfl) ?_
  refine lv_lookup (tgt := 12) (off := 11) hx hb dX6_qOf_1 (by decide) rfl (by decide) ?_
  refine lv_lload_n hx hb dX6_qOf_12 rfl (lv_at hl 2 rfl) ?_
  refine lv_lconst (v := 0) hx hb dX6_qOf_13 (by decide) ?_
  refine lv_aload_n hx hb dX6_qOf_14 rfl (lv_at hl 0 rfl) ?_
  refine tc_trialMany hC hI hT ⟨Nat.le_of_ble_eq_true rfl, Nat.le_of_ble_eq_true rfl⟩ ⟨Nat.zero_le _, Nat.zero_le _⟩ hl.1 (Nat.le_of_ble_eq_true rfl) dX6_qOf_15 (fun r2 τ1 H locs hT hI => ?_)
  refine lv_iconst (v := 1) hx hb dX6_qOf_18 (by decide) ?_
  refine lv_isub hx hb dX6_qOf_19 ?_
  refine lv_i2l hx hb dX6_qOf_20 rfl ?_
  refine tc_isIn hC hI hT ⟨Nat.le_of_ble_eq_true rfl, Nat.le_of_ble_eq_true rfl⟩ ⟨Nat.zero_le _, Nat.zero_le _⟩ hl.1 (Nat.le_of_ble_eq_true rfl) dX6_qOf_21 (fun r4 τ3 H locs hT hI => ?_)
  refine lv_if_eq (tgt := 44) hx hb dX6_qOf_24 (by decide) (fun hc => ?_) (fun hc => ?_)
  · have hT := hT.1 hc
    refine lv_lconst (v := 0) hx hb dX6_qOf_44 (by decide) ?_
    exact hret _ _ _ _ _ _ hT hI dX6_qOf_45
  · have hT := hT.2 hc
    refine lv_aload_n hx hb dX6_qOf_27 rfl (lv_at hl 0 rfl) ?_
    refine tg_56 hC hI dX6_qOf_28 ?_
    refine lv_bipush (v := 8) hx hb dX6_qOf_31 (by decide) ?_
    refine lv_lload_n hx hb dX6_qOf_33 rfl (lv_at hl 2 rfl) ?_
    refine lv_l2i hx hb dX6_qOf_34 rfl ?_
    refine lv_imul hx hb dX6_qOf_35 ?_
    refine lv_iload hx hb dX6_qOf_36 (lv_at hl 3 rfl) ?_
    refine lv_iadd hx hb dX6_qOf_38 ?_
    refine tw_iald hC hI tl_57 hT dX6_qOf_39 (fun hT => ?_)
    refine lv_i2l hx hb dX6_qOf_40 rfl ?_
    refine lv_goto (tgt := 45) hx hb dX6_qOf_41 (by decide) ?_
    exact hret _ _ _ _ _ _ hT hI dX6_qOf_45
theorem tc_qOf {p : Program} {l : Launch} {e : Env} {R : Room} {s : State} {m : MethodId} {args : Array Value} {below : List Frame} {meth : Method} {c : Code} {H : Heap} {locs : List Loc} {cells slots : Nat} {Q : State → Prop} {cc : ByteArray} {nL : Nat} {D : va_G} {dA : Nat → ClassId} {ad : Nat → Nat} {τ : Sto} {pc sz : Nat} {ls : Array Slot} {rest : List Value} {H0 : Heap} {x1 : Int32} {x2 : Int64} {x4 : Int32} {K : Int64 → Sto → Prop} (hC : tC p m c cc nL s args D dA ad) (hI : tI D dA ad sz H0 τ H locs) (hT : T_qOf τ x1 x2 x4 K) (hR : 2 + 1 ≤ R.frames ∧ 8 + (5 + 11) + 37 ≤ R.locals) (hf : cells ≤ R.cells ∧ slots ≤ R.slots) (hsz : ls.size = nL) (hroom : (rest.map fun v => v.category).sum ≤ 8) (hdg : decode cc pc = .ok (.invokevirtual 659, 3)) (kk : ∀ (r : Int64) (τ1 : Sto) (H1 : Heap) (locs1 : List Loc), K r τ1 → tI D dA ad sz H0 τ1 H1 locs1 → W p l e R s m args below meth c H1 locs1 cells slots Q (F0 m (pc + 3) ls (.long r :: rest))) : W p l e R s m args below meth c H locs cells slots Q (F0 m pc ls (.int x4 :: .long x2 :: .int x1 :: .ref (ad 0) :: rest)) :=
  rg_calll (rg_runV hC.1 hC.2.1 hI.1 hI.2.1 tl_0 rfl (met_qOf l D dA ad hC.2.2 sz τ x1 x2 x4 K hT) (lw_V q2528 q2530 qs152 q170 q2531) 3 (by decide +kernel) ⟨rfl, rfl⟩ hR rfl hsz rfl hroom hf hdg) hI.2.2 (fun r τ1 H1 l1 hk hz hP hS => kk r τ1 H1 l1 hk ⟨hP, hz, hS⟩)
set_option maxHeartbeats 4000000 in
set_option maxRecDepth 100000 in
theorem met_qTold (l : Launch) (D : va_G) (dA : Nat → ClassId) (ad : Nat → Nat) (hJ : rgJ twL ad) (sz : Nat) (τ : Sto) (x1 : Int32) (K : Int64 → Sto → Prop) (hT : T_qTold τ x1 K) : Met l yX6_qTold (ws_ yX6_qTold cX6_qTold 4 (some .long)) ({ frames := 3, cells := 0, slots := 0, locals := 62 }) (va_Pc [.ref (ad 0), .int x1] (rgU D vwCl dA twL ad sz τ)) (va_Ql K (rgU D vwCl dA twL ad sz) (rgAd twL ad)) 0 0 (rgAd twL ad) := by
  refine tw_metl hJ (by decide) rfl (Nat.le_of_ble_eq_true rfl) ?_
  intro p e s m args below meth c Q hC hret hI ls hl
  have hx := hC.1.1
  have hb := hC.1.2.1
  have hl : lv_has ls 4 [(0, .ref (ad 0)), (1, .int x1)] := hl
  have w_7 : ∀ (x1 : Int32) (n : Nat) (x2 : Int32) (τ : Sto) (H : Heap) (locs : List Loc) (ls : Array Slot), T_qTold_7 K x1 n x2 τ → tI D dA ad sz s.heap τ H locs → lv_has ls 4 [(0, .ref (ad 0)), (1, .int x1), (2, .int x2)] → W p l e ({ frames := 3, cells := 0, slots := 0, locals := 62 }) s m args below meth c H locs 0 0 Q (F0 m 7 ls []) := by
    intro x1 n
    induction n with
    | zero => intro x2 τ H locs ls hT; exact hT.elim
    | succ n ih =>
      intro x2 τ H locs ls hT hI hl
      unfold T_qTold_7 at hT
      refine lv_iload_n hx hb dX6_qTold_7 rfl (lv_at hl 2 rfl) ?_
      refine lv_aload_n hx hb dX6_qTold_8 rfl (lv_at hl 0 rfl) ?_
      refine tg_92 hC hI dX6_qTold_9 ?_
      refine lv_icmp_ge (tgt := 168) hx hb dX6_qTold_12 (by decide) (fun hc => ?_) (fun hc => ?_)
      · have hT := hT.1 hc
        refine lv_aload_n hx hb dX6_qTold_168 rfl (lv_at hl 0 rfl) ?_
        refine tg_97 hC hI dX6_qTold_169 ?_
        refine lv_iconst (v := 0) hx hb dX6_qTold_172 (by decide) ?_
        refine tw_lald hC hI tl_98 hT dX6_qTold_173 (fun hT => ?_)
        exact hret _ _ _ _ _ _ hT hI dX6_qTold_174
      · have hT := hT.2 hc
        refine lv_aload_n hx hb dX6_qTold_15 rfl (lv_at hl 0 rfl) ?_
        refine tg_91 hC hI dX6_qTold_16 ?_
        refine lv_iload_n hx hb dX6_qTold_19 rfl (lv_at hl 2 rfl) ?_
        refine tw_iald hC hI tl_92 hT dX6_qTold_20 (fun hT => ?_)
        refine lv_istore_n (lv' := [(3, .int (τ.1 92 (Int32.toNatClampNeg x2))), (0, .ref (ad 0)), (1, .int x1), (2, .int x2)]) hx hb dX6_qTold_21 rfl hl (Nat.le_of_ble_eq_true rfl) rfl (fun ls hl => ?_)
        refine lv_iload_n hx hb dX6_qTold_22 rfl (lv_at hl 0 rfl) ?_
        refine lv_sipush (v := 1000) hx hb dX6_qTold_23 (by decide) ?_
        refine lv_icmp_lt (tgt := 42) hx hb dX6_qTold_26 (by decide) (fun hc => ?_) (fun hc => ?_)
        · have hT := hT.1 hc
          refine lv_iload_n hx hb dX6_qTold_42 rfl (lv_at hl 0 rfl) ?_
          refine lv_bipush (v := 60) hx hb dX6_qTold_43 (by decide) ?_
          refine lv_icmp_lt (tgt := 85) hx hb dX6_qTold_45 (by decide) (fun hc => ?_) (fun hc => ?_)
          · have hT := hT.1 hc
            refine lv_iload_n hx hb dX6_qTold_85 rfl (lv_at hl 0 rfl) ?_
            refine lv_bipush (v := 40) hx hb dX6_qTold_86 (by decide) ?_
            refine lv_icmp_lt (tgt := 110) hx hb dX6_qTold_88 (by decide) (fun hc => ?_) (fun hc => ?_)
            · have hT := hT.1 hc
              refine lv_iload_n hx hb dX6_qTold_110 rfl (lv_at hl 0 rfl) ?_
              refine lv_bipush (v := 13) hx hb dX6_qTold_111 (by decide) ?_
              refine lv_icmp_ne (tgt := 124) hx hb dX6_qTold_113 (by decide) (fun hc => ?_) (fun hc => ?_)
              · have hT := hT.1 hc
                refine lv_iload_n hx hb dX6_qTold_124 rfl (lv_at hl 0 rfl) ?_
                refine lv_bipush (v := 12) hx hb dX6_qTold_125 (by decide) ?_
                refine lv_icmp_ne (tgt := 157) hx hb dX6_qTold_127 (by decide) (fun hc => ?_) (fun hc => ?_)
                · have hT := hT.1 hc
                  refine lv_aload_n hx hb dX6_qTold_157 rfl (lv_at hl 1 rfl) ?_
                  refine lv_iload_n hx hb dX6_qTold_158 rfl (lv_at hl 0 rfl) ?_
                  refine tc_qJoins hC hI hT ⟨Nat.le_of_ble_eq_true rfl, Nat.le_of_ble_eq_true rfl⟩ ⟨Nat.zero_le _, Nat.zero_le _⟩ hl.1 (Nat.le_of_ble_eq_true rfl) dX6_qTold_159 (fun τ1 H locs hT hI => ?_)
                  refine lv_iinc (v := x2 + 1) (lv' := [(2, .int (x2 + 1)), (3, .int (τ.1 92 (Int32.toNatClampNeg x2))), (0, .ref (ad 0)), (1, .int x1)]) hx hb dX6_qTold_162 hl (k := 3) rfl rfl (Nat.le_of_ble_eq_true rfl) rfl (fun ls hl => ?_)
                  refine lv_goto (tgt := 7) hx hb dX6_qTold_165 (by decide) ?_
                  exact ih (x2 + 1) τ1 _ _ _ hT hI (lv_sub hl [2, 3, 0] rfl)
                · have hT := hT.2 hc
                  refine lv_aload_n hx hb dX6_qTold_130 rfl (lv_at hl 1 rfl) ?_
                  refine tg_97 hC hI dX6_qTold_131 ?_
                  refine lv_aload_n hx hb dX6_qTold_134 rfl (lv_at hl 1 rfl) ?_
                  refine tg_98 hC hI dX6_qTold_135 ?_
                  refine lv_iconst (v := 1) hx hb dX6_qTold_138 (by decide) ?_
                  refine lv_isub hx hb dX6_qTold_139 ?_
                  refine lv_lconst (v := 1) hx hb dX6_qTold_140 (by decide) ?_
                  refine lv_aload_n hx hb dX6_qTold_141 rfl (lv_at hl 1 rfl) ?_
                  refine tg_97 hC hI dX6_qTold_142 ?_
                  refine lv_aload_n hx hb dX6_qTold_145 rfl (lv_at hl 1 rfl) ?_
                  refine tg_98 hC hI dX6_qTold_146 ?_
                  refine lv_iconst (v := 1) hx hb dX6_qTold_149 (by decide) ?_
                  refine lv_isub hx hb dX6_qTold_150 ?_
                  refine tw_lald hC hI tl_98 hT dX6_qTold_151 (fun hT => ?_)
                  refine lv_lsub hx hb dX6_qTold_152 ?_
                  refine tw_last hC hI tl_98 hT dX6_qTold_153 (fun τ2 H locs hT hI => ?_)
                  refine lv_goto (tgt := 162) hx hb dX6_qTold_154 (by decide) ?_
                  refine lv_iinc (v := x2 + 1) (lv' := [(2, .int (x2 + 1)), (3, .int (τ.1 92 (Int32.toNatClampNeg x2))), (0, .ref (ad 0)), (1, .int x1)]) hx hb dX6_qTold_162 hl (k := 3) rfl rfl (Nat.le_of_ble_eq_true rfl) rfl (fun ls hl => ?_)
                  refine lv_goto (tgt := 7) hx hb dX6_qTold_165 (by decide) ?_
                  exact ih (x2 + 1) τ2 _ _ _ hT hI (lv_sub hl [2, 3, 0] rfl)
              · have hT := hT.2 hc
                refine lv_aload_n hx hb dX6_qTold_116 rfl (lv_at hl 1 rfl) ?_
                refine lv_lconst (v := 1) hx hb dX6_qTold_117 (by decide) ?_
                refine tc_qPuts hC hI hT ⟨Nat.le_of_ble_eq_true rfl, Nat.le_of_ble_eq_true rfl⟩ ⟨Nat.zero_le _, Nat.zero_le _⟩ hl.1 (Nat.le_of_ble_eq_true rfl) dX6_qTold_118 (fun τ3 H locs hT hI => ?_)
                refine lv_goto (tgt := 162) hx hb dX6_qTold_121 (by decide) ?_
                refine lv_iinc (v := x2 + 1) (lv' := [(2, .int (x2 + 1)), (3, .int (τ.1 92 (Int32.toNatClampNeg x2))), (0, .ref (ad 0)), (1, .int x1)]) hx hb dX6_qTold_162 hl (k := 3) rfl rfl (Nat.le_of_ble_eq_true rfl) rfl (fun ls hl => ?_)
                refine lv_goto (tgt := 7) hx hb dX6_qTold_165 (by decide) ?_
                exact ih (x2 + 1) τ3 _ _ _ hT hI (lv_sub hl [2, 3, 0] rfl)
            · have hT := hT.2 hc
              refine lv_aload_n hx hb dX6_qTold_91 rfl (lv_at hl 1 rfl) ?_
              refine lv_aload_n hx hb dX6_qTold_92 rfl (lv_at hl 1 rfl) ?_
              refine lv_iload_n hx hb dX6_qTold_93 rfl (lv_at hl 0 rfl) ?_
              refine lv_bipush (v := 40) hx hb dX6_qTold_94 (by decide) ?_
              refine lv_isub hx hb dX6_qTold_96 ?_
              refine lv_iload_n hx hb dX6_qTold_97 rfl (lv_at hl 2 rfl) ?_
              refine tc_qPartOf hC hI hT ⟨Nat.le_of_ble_eq_true rfl, Nat.le_of_ble_eq_true rfl⟩ ⟨Nat.zero_le _, Nat.zero_le _⟩ hl.1 (Nat.le_of_ble_eq_true rfl) dX6_qTold_98 (fun r5 τ4 H locs hT hI => ?_)
              refine tc_qClip hC hI hT ⟨Nat.le_of_ble_eq_true rfl, Nat.le_of_ble_eq_true rfl⟩ ⟨Nat.zero_le _, Nat.zero_le _⟩ hl.1 (Nat.le_of_ble_eq_true rfl) dX6_qTold_101 (fun r7 τ6 H locs hT hI => ?_)
              refine tc_qPuts hC hI hT ⟨Nat.le_of_ble_eq_true rfl, Nat.le_of_ble_eq_true rfl⟩ ⟨Nat.zero_le _, Nat.zero_le _⟩ hl.1 (Nat.le_of_ble_eq_true rfl) dX6_qTold_104 (fun τ8 H locs hT hI => ?_)
              refine lv_goto (tgt := 162) hx hb dX6_qTold_107 (by decide) ?_
              refine lv_iinc (v := x2 + 1) (lv' := [(2, .int (x2 + 1)), (3, .int (τ.1 92 (Int32.toNatClampNeg x2))), (0, .ref (ad 0)), (1, .int x1)]) hx hb dX6_qTold_162 hl (k := 3) rfl rfl (Nat.le_of_ble_eq_true rfl) rfl (fun ls hl => ?_)
              refine lv_goto (tgt := 7) hx hb dX6_qTold_165 (by decide) ?_
              exact ih (x2 + 1) τ8 _ _ _ hT hI (lv_sub hl [2, 3, 0] rfl)
          · have hT := hT.2 hc
            refine lv_aload_n hx hb dX6_qTold_48 rfl (lv_at hl 1 rfl) ?_
            refine tg_97 hC hI dX6_qTold_49 ?_
            refine lv_aload_n hx hb dX6_qTold_52 rfl (lv_at hl 1 rfl) ?_
            refine tg_98 hC hI dX6_qTold_53 ?_
            refine lv_iconst (v := 1) hx hb dX6_qTold_56 (by decide) ?_
            refine lv_isub hx hb dX6_qTold_57 ?_
            refine lv_aload_n hx hb dX6_qTold_58 rfl (lv_at hl 1 rfl) ?_
            refine lv_iload_n hx hb dX6_qTold_59 rfl (lv_at hl 0 rfl) ?_
            refine lv_bipush (v := 60) hx hb dX6_qTold_60 (by decide) ?_
            refine lv_isub hx hb dX6_qTold_62 ?_
            refine lv_aload_n hx hb dX6_qTold_63 rfl (lv_at hl 1 rfl) ?_
            refine tg_97 hC hI dX6_qTold_64 ?_
            refine lv_aload_n hx hb dX6_qTold_67 rfl (lv_at hl 1 rfl) ?_
            refine tg_98 hC hI dX6_qTold_68 ?_
            refine lv_iconst (v := 1) hx hb dX6_qTold_71 (by decide) ?_
            refine lv_isub hx hb dX6_qTold_72 ?_
            refine tw_lald hC hI tl_98 hT dX6_qTold_73 (fun hT => ?_)
            refine lv_iload_n hx hb dX6_qTold_74 rfl (lv_at hl 2 rfl) ?_
            refine tc_qOf hC hI hT ⟨Nat.le_of_ble_eq_true rfl, Nat.le_of_ble_eq_true rfl⟩ ⟨Nat.zero_le _, Nat.zero_le _⟩ hl.1 (Nat.le_of_ble_eq_true rfl) dX6_qTold_75 (fun r10 τ9 H locs hT hI => ?_)
            refine tc_qClip hC hI hT ⟨Nat.le_of_ble_eq_true rfl, Nat.le_of_ble_eq_true rfl⟩ ⟨Nat.zero_le _, Nat.zero_le _⟩ hl.1 (Nat.le_of_ble_eq_true rfl) dX6_qTold_78 (fun r12 τ11 H locs hT hI => ?_)
            refine tw_last hC hI tl_98 hT dX6_qTold_81 (fun τ13 H locs hT hI => ?_)
            refine lv_goto (tgt := 162) hx hb dX6_qTold_82 (by decide) ?_
            refine lv_iinc (v := x2 + 1) (lv' := [(2, .int (x2 + 1)), (3, .int (τ.1 92 (Int32.toNatClampNeg x2))), (0, .ref (ad 0)), (1, .int x1)]) hx hb dX6_qTold_162 hl (k := 3) rfl rfl (Nat.le_of_ble_eq_true rfl) rfl (fun ls hl => ?_)
            refine lv_goto (tgt := 7) hx hb dX6_qTold_165 (by decide) ?_
            exact ih (x2 + 1) τ13 _ _ _ hT hI (lv_sub hl [2, 3, 0] rfl)
        · have hT := hT.2 hc
          refine lv_aload_n hx hb dX6_qTold_29 rfl (lv_at hl 1 rfl) ?_
          refine lv_iload_n hx hb dX6_qTold_30 rfl (lv_at hl 0 rfl) ?_
          refine lv_sipush (v := 1000) hx hb dX6_qTold_31 (by decide) ?_
          refine lv_isub hx hb dX6_qTold_34 ?_
          refine lv_i2l hx hb dX6_qTold_35 rfl ?_
          refine tc_qPuts hC hI hT ⟨Nat.le_of_ble_eq_true rfl, Nat.le_of_ble_eq_true rfl⟩ ⟨Nat.zero_le _, Nat.zero_le _⟩ hl.1 (Nat.le_of_ble_eq_true rfl) dX6_qTold_36 (fun τ14 H locs hT hI => ?_)
          refine lv_goto (tgt := 162) hx hb dX6_qTold_39 (by decide) ?_
          refine lv_iinc (v := x2 + 1) (lv' := [(2, .int (x2 + 1)), (3, .int (τ.1 92 (Int32.toNatClampNeg x2))), (0, .ref (ad 0)), (1, .int x1)]) hx hb dX6_qTold_162 hl (k := 3) rfl rfl (Nat.le_of_ble_eq_true rfl) rfl (fun ls hl => ?_)
          refine lv_goto (tgt := 7) hx hb dX6_qTold_165 (by decide) ?_
          exact ih (x2 + 1) τ14 _ _ _ hT hI (lv_sub hl [2, 3, 0] rfl)
  unfold T_qTold at hT
  refine lv_aload_n hx hb dX6_qTold_0 rfl (lv_at hl 0 rfl) ?_
  refine lv_iconst (v := 0) hx hb dX6_qTold_1 (by decide) ?_
  refine tp_98 hC hI hT dX6_qTold_2 (fun τ15 H locs hT hI => ?_)
  refine lv_iconst (v := 0) hx hb dX6_qTold_5 (by decide) ?_
  refine lv_istore_n (lv' := [(2, .int 0), (0, .ref (ad 0)), (1, .int x1)]) hx hb dX6_qTold_6 rfl hl (Nat.le_of_ble_eq_true rfl) rfl (fun ls hl => ?_)
  obtain ⟨n7, hT⟩ := hT
  exact w_7 x1 n7 0 τ15 _ _ _ hT hI (lv_sub hl [1, 2, 0] rfl)
theorem tc_qTold {p : Program} {l : Launch} {e : Env} {R : Room} {s : State} {m : MethodId} {args : Array Value} {below : List Frame} {meth : Method} {c : Code} {H : Heap} {locs : List Loc} {cells slots : Nat} {Q : State → Prop} {cc : ByteArray} {nL : Nat} {D : va_G} {dA : Nat → ClassId} {ad : Nat → Nat} {τ : Sto} {pc sz : Nat} {ls : Array Slot} {rest : List Value} {H0 : Heap} {x1 : Int32} {K : Int64 → Sto → Prop} (hC : tC p m c cc nL s args D dA ad) (hI : tI D dA ad sz H0 τ H locs) (hT : T_qTold τ x1 K) (hR : 3 + 1 ≤ R.frames ∧ 8 + (4 + 11) + 62 ≤ R.locals) (hf : cells ≤ R.cells ∧ slots ≤ R.slots) (hsz : ls.size = nL) (hroom : (rest.map fun v => v.category).sum ≤ 8) (hdg : decode cc pc = .ok (.invokevirtual 672, 3)) (kk : ∀ (r : Int64) (τ1 : Sto) (H1 : Heap) (locs1 : List Loc), K r τ1 → tI D dA ad sz H0 τ1 H1 locs1 → W p l e R s m args below meth c H1 locs1 cells slots Q (F0 m (pc + 3) ls (.long r :: rest))) : W p l e R s m args below meth c H locs cells slots Q (F0 m pc ls (.int x1 :: .ref (ad 0) :: rest)) :=
  rg_calll (rg_runV hC.1 hC.2.1 hI.1 hI.2.1 tl_0 rfl (met_qTold l D dA ad hC.2.2 sz τ x1 K hT) (lw_V q2524 q2526 qs151 q170 q2527) 1 (by decide +kernel) ⟨rfl, rfl⟩ hR rfl hsz rfl hroom hf hdg) hI.2.2 (fun r τ1 H1 l1 hk hz hP hS => kk r τ1 H1 l1 hk ⟨hP, hz, hS⟩)
set_option maxHeartbeats 4000000 in
set_option maxRecDepth 100000 in
theorem met_qTakes (l : Launch) (D : va_G) (dA : Nat → ClassId) (ad : Nat → Nat) (hJ : rgJ twL ad) (sz : Nat) (τ : Sto) (x1 : Int32) (x2 : Int64) (x4 : Int32) (K : Sto → Prop) (hT : T_qTakes τ x1 x2 x4 K) : Met l yX6_qTakes (ws_ yX6_qTakes cX6_qTakes 6 (none)) ({ frames := 1, cells := 0, slots := 0, locals := 12 }) (va_Pc [.ref (ad 0), .int x1, .long x2, .int x4] (rgU D vwCl dA twL ad sz τ)) (va_Qv K (rgU D vwCl dA twL ad sz) (rgAd twL ad)) 0 0 (rgAd twL ad) := by
  refine tw_metv hJ (by decide) rfl (Nat.le_of_ble_eq_true rfl) ?_
  intro p e s m args below meth c Q hC hret hI ls hl
  have hx := hC.1.1
  have hb := hC.1.2.1
  have hl : lv_has ls 6 [(0, .ref (ad 0)), (1, .int x1), (2, .long x2), (4, .int x4)] := hl
  have w_90 : ∀ (x1 : Int32) (x2 : Int64) (τ : Sto) (H : Heap) (locs : List Loc) (ls : Array Slot), T_qTakes_90 K x1 x2 τ → tI D dA ad sz s.heap τ H locs → lv_has ls 6 [(0, .ref (ad 0)), (1, .int x1), (2, .long x2)] → W p l e ({ frames := 1, cells := 0, slots := 0, locals := 12 }) s m args below meth c H locs 0 0 Q (F0 m 90 ls []) := by
    intro x1 x2 τ H locs ls hT hI hl
    unfold T_qTakes_90 at hT
    refine lv_iload_n hx hb dX6_qTakes_90 rfl (lv_at hl 1 rfl) ?_
    refine lv_iconst (v := 3) hx hb dX6_qTakes_91 (by decide) ?_
    refine lv_icmp_le (tgt := 133) hx hb dX6_qTakes_92 (by decide) (fun hc => ?_) (fun hc => ?_)
    · have hT := hT.1 hc
      refine lv_aload_n hx hb dX6_qTakes_133 rfl (lv_at hl 0 rfl) ?_
      refine lv_iconst (v := 0) hx hb dX6_qTakes_134 (by decide) ?_
      refine tp_100 hC hI (by decide) hT dX6_qTakes_135 (fun τ1 H locs hT hI => ?_)
      exact hret _ _ _ _ _ hT hI dX6_qTakes_138
    · have hT := hT.2 hc
      refine lv_aload_n hx hb dX6_qTakes_95 rfl (lv_at hl 0 rfl) ?_
      refine tg_100 hC hI dX6_qTakes_96 ?_
      refine lv_if_ne (tgt := 128) hx hb dX6_qTakes_99 (by decide) (fun hc => ?_) (fun hc => ?_)
      · have hT := hT.1 hc
        refine lv_aload_n hx hb dX6_qTakes_128 rfl (lv_at hl 0 rfl) ?_
        refine lv_lload_n hx hb dX6_qTakes_129 rfl (lv_at hl 2 rfl) ?_
        refine tp_99 hC hI hT dX6_qTakes_130 (fun τ2 H locs hT hI => ?_)
        refine lv_aload_n hx hb dX6_qTakes_133 rfl (lv_at hl 0 rfl) ?_
        refine lv_iconst (v := 0) hx hb dX6_qTakes_134 (by decide) ?_
        refine tp_100 hC hI (by decide) hT dX6_qTakes_135 (fun τ3 H locs hT hI => ?_)
        exact hret _ _ _ _ _ hT hI dX6_qTakes_138
      · have hT := hT.2 hc
        refine lv_iload_n hx hb dX6_qTakes_102 rfl (lv_at hl 1 rfl) ?_
        refine lv_iconst (v := 4) hx hb dX6_qTakes_103 (by decide) ?_
        refine lv_icmp_ne (tgt := 119) hx hb dX6_qTakes_104 (by decide) (fun hc => ?_) (fun hc => ?_)
        · have hT := hT.1 hc
          refine lv_lload_n hx hb dX6_qTakes_119 rfl (lv_at hl 2 rfl) ?_
          refine lv_aload_n hx hb dX6_qTakes_120 rfl (lv_at hl 0 rfl) ?_
          refine tg_99 hC hI dX6_qTakes_121 ?_
          refine rl_ge (tgt := 133) hx hb dX6_qTakes_124 dX6_qTakes_125 (by decide) (fun hc => ?_) (fun hc => ?_)
          · have hT := hT.1 hc
            refine lv_aload_n hx hb dX6_qTakes_133 rfl (lv_at hl 0 rfl) ?_
            refine lv_iconst (v := 0) hx hb dX6_qTakes_134 (by decide) ?_
            refine tp_100 hC hI (by decide) hT dX6_qTakes_135 (fun τ4 H locs hT hI => ?_)
            exact hret _ _ _ _ _ hT hI dX6_qTakes_138
          · have hT := hT.2 hc
            refine lv_aload_n hx hb dX6_qTakes_128 rfl (lv_at hl 0 rfl) ?_
            refine lv_lload_n hx hb dX6_qTakes_129 rfl (lv_at hl 2 rfl) ?_
            refine tp_99 hC hI hT dX6_qTakes_130 (fun τ5 H locs hT hI => ?_)
            refine lv_aload_n hx hb dX6_qTakes_133 rfl (lv_at hl 0 rfl) ?_
            refine lv_iconst (v := 0) hx hb dX6_qTakes_134 (by decide) ?_
            refine tp_100 hC hI (by decide) hT dX6_qTakes_135 (fun τ6 H locs hT hI => ?_)
            exact hret _ _ _ _ _ hT hI dX6_qTakes_138
        · have hT := hT.2 hc
          refine lv_lload_n hx hb dX6_qTakes_107 rfl (lv_at hl 2 rfl) ?_
          refine lv_aload_n hx hb dX6_qTakes_108 rfl (lv_at hl 0 rfl) ?_
          refine tg_99 hC hI dX6_qTakes_109 ?_
          refine rl_le (tgt := 133) hx hb dX6_qTakes_112 dX6_qTakes_113 (by decide) (fun hc => ?_) (fun hc => ?_)
          · have hT := hT.1 hc
            refine lv_aload_n hx hb dX6_qTakes_133 rfl (lv_at hl 0 rfl) ?_
            refine lv_iconst (v := 0) hx hb dX6_qTakes_134 (by decide) ?_
            refine tp_100 hC hI (by decide) hT dX6_qTakes_135 (fun τ7 H locs hT hI => ?_)
            exact hret _ _ _ _ _ hT hI dX6_qTakes_138
          · have hT := hT.2 hc
            refine lv_goto (tgt := 128) hx hb dX6_qTakes_116 (by decide) ?_
            refine lv_aload_n hx hb dX6_qTakes_128 rfl (lv_at hl 0 rfl) ?_
            refine lv_lload_n hx hb dX6_qTakes_129 rfl (lv_at hl 2 rfl) ?_
            refine tp_99 hC hI hT dX6_qTakes_130 (fun τ8 H locs hT hI => ?_)
            refine lv_aload_n hx hb dX6_qTakes_133 rfl (lv_at hl 0 rfl) ?_
            refine lv_iconst (v := 0) hx hb dX6_qTakes_134 (by decide) ?_
            refine tp_100 hC hI (by decide) hT dX6_qTakes_135 (fun τ9 H locs hT hI => ?_)
            exact hret _ _ _ _ _ hT hI dX6_qTakes_138
  have w_75 : ∀ (x1 : Int32) (x2 : Int64) (τ : Sto) (H : Heap) (locs : List Loc) (ls : Array Slot), T_qTakes_75 K x1 x2 τ → tI D dA ad sz s.heap τ H locs → lv_has ls 6 [(0, .ref (ad 0)), (1, .int x1), (2, .long x2)] → W p l e ({ frames := 1, cells := 0, slots := 0, locals := 12 }) s m args below meth c H locs 0 0 Q (F0 m 75 ls []) := by
    intro x1 x2 τ H locs ls hT hI hl
    unfold T_qTakes_75 at hT
    refine lv_iload_n hx hb dX6_qTakes_75 rfl (lv_at hl 1 rfl) ?_
    refine lv_iconst (v := 3) hx hb dX6_qTakes_76 (by decide) ?_
    refine lv_icmp_ne (tgt := 90) hx hb dX6_qTakes_77 (by decide) (fun hc => ?_) (fun hc => ?_)
    · have hT := hT.1 hc
      exact w_90 x1 x2 τ _ _ _ hT hI (lv_sub hl [0, 1, 2] rfl)
    · have hT := hT.2 hc
      refine lv_aload_n hx hb dX6_qTakes_80 rfl (lv_at hl 0 rfl) ?_
      refine lv_dup hx hb dX6_qTakes_81 rfl ?_
      refine tg_99 hC hI dX6_qTakes_82 ?_
      refine lv_lload_n hx hb dX6_qTakes_85 rfl (lv_at hl 2 rfl) ?_
      refine lv_ladd hx hb dX6_qTakes_86 ?_
      refine tp_99 hC hI hT dX6_qTakes_87 (fun τ10 H locs hT hI => ?_)
      exact w_90 x1 x2 τ10 _ _ _ hT hI (lv_sub hl [0, 1, 2] rfl)
  have w_55 : ∀ (x1 : Int32) (x2 : Int64) (x5 : Int32) (τ : Sto) (H : Heap) (locs : List Loc) (ls : Array Slot), T_qTakes_55 K x1 x2 x5 τ → tI D dA ad sz s.heap τ H locs → lv_has ls 6 [(0, .ref (ad 0)), (1, .int x1), (2, .long x2), (5, .int x5)] → W p l e ({ frames := 1, cells := 0, slots := 0, locals := 12 }) s m args below meth c H locs 0 0 Q (F0 m 55 ls []) := by
    intro x1 x2 x5 τ H locs ls hT hI hl
    unfold T_qTakes_55 at hT
    refine lv_iload_n hx hb dX6_qTakes_55 rfl (lv_at hl 1 rfl) ?_
    refine lv_iconst (v := 2) hx hb dX6_qTakes_56 (by decide) ?_
    refine lv_icmp_ne (tgt := 75) hx hb dX6_qTakes_57 (by decide) (fun hc => ?_) (fun hc => ?_)
    · have hT := hT.1 hc
      exact w_75 x1 x2 τ _ _ _ hT hI (lv_sub hl [0, 1, 2] rfl)
    · have hT := hT.2 hc
      refine lv_iload hx hb dX6_qTakes_60 (lv_at hl 3 rfl) ?_
      refine lv_if_eq (tgt := 75) hx hb dX6_qTakes_62 (by decide) (fun hc => ?_) (fun hc => ?_)
      · have hT := hT.1 hc
        exact w_75 x1 x2 τ _ _ _ hT hI (lv_sub hl [0, 1, 2] rfl)
      · have hT := hT.2 hc
        refine lv_aload_n hx hb dX6_qTakes_65 rfl (lv_at hl 0 rfl) ?_
        refine lv_dup hx hb dX6_qTakes_66 rfl ?_
        refine tg_99 hC hI dX6_qTakes_67 ?_
        refine lv_lconst (v := 1) hx hb dX6_qTakes_70 (by decide) ?_
        refine lv_ladd hx hb dX6_qTakes_71 ?_
        refine tp_99 hC hI hT dX6_qTakes_72 (fun τ11 H locs hT hI => ?_)
        exact w_75 x1 x2 τ11 _ _ _ hT hI (lv_sub hl [0, 1, 2] rfl)
  have w_38 : ∀ (x1 : Int32) (x2 : Int64) (x4 : Int32) (x5 : Int32) (τ : Sto) (H : Heap) (locs : List Loc) (ls : Array Slot), T_qTakes_38 K x1 x2 x4 x5 τ → tI D dA ad sz s.heap τ H locs → lv_has ls 6 [(0, .ref (ad 0)), (1, .int x1), (2, .long x2), (4, .int x4), (5, .int x5)] → W p l e ({ frames := 1, cells := 0, slots := 0, locals := 12 }) s m args below meth c H locs 0 0 Q (F0 m 38 ls []) := by
    intro x1 x2 x4 x5 τ H locs ls hT hI hl
    unfold T_qTakes_38 at hT
    refine lv_iload_n hx hb dX6_qTakes_38 rfl (lv_at hl 1 rfl) ?_
    refine lv_iconst (v := 1) hx hb dX6_qTakes_39 (by decide) ?_
    refine lv_icmp_ne (tgt := 55) hx hb dX6_qTakes_40 (by decide) (fun hc => ?_) (fun hc => ?_)
    · have hT := hT.1 hc
      exact w_55 x1 x2 x5 τ _ _ _ hT hI (lv_sub hl [0, 1, 2, 4] rfl)
    · have hT := hT.2 hc
      refine lv_iload hx hb dX6_qTakes_43 (lv_at hl 4 rfl) ?_
      refine lv_if_eq (tgt := 55) hx hb dX6_qTakes_45 (by decide) (fun hc => ?_) (fun hc => ?_)
      · have hT := hT.1 hc
        exact w_55 x1 x2 x5 τ _ _ _ hT hI (lv_sub hl [0, 1, 2, 4] rfl)
      · have hT := hT.2 hc
        refine lv_aload_n hx hb dX6_qTakes_48 rfl (lv_at hl 0 rfl) ?_
        refine lv_iload hx hb dX6_qTakes_49 (lv_at hl 3 rfl) ?_
        refine lv_i2l hx hb dX6_qTakes_51 rfl ?_
        refine tp_99 hC hI hT dX6_qTakes_52 (fun τ12 H locs hT hI => ?_)
        exact w_55 x1 x2 x5 τ12 _ _ _ hT hI (lv_sub hl [0, 1, 2, 4] rfl)
  have w_16 : ∀ (x1 : Int32) (x2 : Int64) (x4 : Int32) (s0 : Int32) (τ : Sto) (H : Heap) (locs : List Loc) (ls : Array Slot), T_qTakes_16 K x1 x2 x4 s0 τ → tI D dA ad sz s.heap τ H locs → lv_has ls 6 [(0, .ref (ad 0)), (1, .int x1), (2, .long x2), (4, .int x4)] → W p l e ({ frames := 1, cells := 0, slots := 0, locals := 12 }) s m args below meth c H locs 0 0 Q (F0 m 16 ls [.int s0]) := by
    intro x1 x2 x4 s0 τ H locs ls hT hI hl
    unfold T_qTakes_16 at hT
    refine lv_istore (lv' := [(5, .int s0), (0, .ref (ad 0)), (1, .int x1), (2, .long x2), (4, .int x4)]) hx hb dX6_qTakes_16 hl (Nat.le_of_ble_eq_true rfl) rfl (fun ls hl => ?_)
    refine lv_iload_n hx hb dX6_qTakes_18 rfl (lv_at hl 2 rfl) ?_
    refine lv_if_ne (tgt := 38) hx hb dX6_qTakes_19 (by decide) (fun hc => ?_) (fun hc => ?_)
    · have hT := hT.1 hc
      exact w_38 x1 x2 x4 s0 τ _ _ _ hT hI (lv_sub hl [1, 2, 3, 4, 0] rfl)
    · have hT := hT.2 hc
      refine lv_iload hx hb dX6_qTakes_22 (lv_at hl 0 rfl) ?_
      refine lv_if_eq (tgt := 38) hx hb dX6_qTakes_24 (by decide) (fun hc => ?_) (fun hc => ?_)
      · have hT := hT.1 hc
        exact w_38 x1 x2 x4 s0 τ _ _ _ hT hI (lv_sub hl [1, 2, 3, 4, 0] rfl)
      · have hT := hT.2 hc
        refine lv_aload_n hx hb dX6_qTakes_27 rfl (lv_at hl 1 rfl) ?_
        refine tg_99 hC hI dX6_qTakes_28 ?_
        refine lv_ldc2 hx hb hC.1.2.2.2.1 (hC.1.2.2.2.2 _ q2429) dX6_qTakes_31 ?_
        refine rl_eq (tgt := 48) hx hb dX6_qTakes_34 dX6_qTakes_35 (by decide) (fun hc => ?_) (fun hc => ?_)
        · have hT := hT.1 hc
          refine lv_aload_n hx hb dX6_qTakes_48 rfl (lv_at hl 1 rfl) ?_
          refine lv_iload hx hb dX6_qTakes_49 (lv_at hl 4 rfl) ?_
          refine lv_i2l hx hb dX6_qTakes_51 rfl ?_
          refine tp_99 hC hI hT dX6_qTakes_52 (fun τ13 H locs hT hI => ?_)
          exact w_55 x1 x2 s0 τ13 _ _ _ hT hI (lv_sub hl [1, 2, 3, 0] rfl)
        · have hT := hT.2 hc
          exact w_38 x1 x2 x4 s0 τ _ _ _ hT hI (lv_sub hl [1, 2, 3, 4, 0] rfl)
  unfold T_qTakes at hT
  refine lv_iload_n hx hb dX6_qTakes_0 rfl (lv_at hl 1 rfl) ?_
  refine lv_iconst (v := 3) hx hb dX6_qTakes_1 (by decide) ?_
  refine lv_icmp_ge (tgt := 15) hx hb dX6_qTakes_2 (by decide) (fun hc => ?_) (fun hc => ?_)
  · have hT := hT.1 hc
    refine lv_iconst (v := 0) hx hb dX6_qTakes_15 (by decide) ?_
    exact w_16 x1 x2 x4 0 τ _ _ _ hT hI (lv_sub hl [0, 1, 2, 3] rfl)
  · have hT := hT.2 hc
    refine lv_lload_n hx hb dX6_qTakes_5 rfl (lv_at hl 2 rfl) ?_
    refine lv_lconst (v := 1) hx hb dX6_qTakes_6 (by decide) ?_
    refine rl_ne (tgt := 15) hx hb dX6_qTakes_7 dX6_qTakes_8 (by decide) (fun hc => ?_) (fun hc => ?_)
    · have hT := hT.1 hc
      refine lv_iconst (v := 0) hx hb dX6_qTakes_15 (by decide) ?_
      exact w_16 x1 x2 x4 0 τ _ _ _ hT hI (lv_sub hl [0, 1, 2, 3] rfl)
    · have hT := hT.2 hc
      refine lv_iconst (v := 1) hx hb dX6_qTakes_11 (by decide) ?_
      refine lv_goto (tgt := 16) hx hb dX6_qTakes_12 (by decide) ?_
      exact w_16 x1 x2 x4 1 τ _ _ _ hT hI (lv_sub hl [0, 1, 2, 3] rfl)
theorem tc_qTakes {p : Program} {l : Launch} {e : Env} {R : Room} {s : State} {m : MethodId} {args : Array Value} {below : List Frame} {meth : Method} {c : Code} {H : Heap} {locs : List Loc} {cells slots : Nat} {Q : State → Prop} {cc : ByteArray} {nL : Nat} {D : va_G} {dA : Nat → ClassId} {ad : Nat → Nat} {τ : Sto} {pc sz : Nat} {ls : Array Slot} {rest : List Value} {H0 : Heap} {x1 : Int32} {x2 : Int64} {x4 : Int32} {K : Sto → Prop} (hC : tC p m c cc nL s args D dA ad) (hI : tI D dA ad sz H0 τ H locs) (hT : T_qTakes τ x1 x2 x4 K) (hR : 1 + 1 ≤ R.frames ∧ 8 + (6 + 11) + 12 ≤ R.locals) (hf : cells ≤ R.cells ∧ slots ≤ R.slots) (hsz : ls.size = nL) (hroom : (rest.map fun v => v.category).sum ≤ 8) (hdg : decode cc pc = .ok (.invokevirtual 675, 3)) (kk : ∀ (τ1 : Sto) (H1 : Heap) (locs1 : List Loc), K τ1 → tI D dA ad sz H0 τ1 H1 locs1 → W p l e R s m args below meth c H1 locs1 cells slots Q (F0 m (pc + 3) ls (rest))) : W p l e R s m args below meth c H locs cells slots Q (F0 m pc ls (.int x4 :: .long x2 :: .int x1 :: .ref (ad 0) :: rest)) :=
  rg_callv (rg_runV hC.1 hC.2.1 hI.1 hI.2.1 tl_0 rfl (met_qTakes l D dA ad hC.2.2 sz τ x1 x2 x4 K hT) (lw_V q2532 q2534 qs153 q170 q2535) 3 (by decide +kernel) ⟨rfl, rfl⟩ hR rfl hsz rfl hroom hf hdg) hI.2.2 (fun τ1 H1 l1 hk hz hP hS => kk τ1 H1 l1 hk ⟨hP, hz, hS⟩)
set_option maxHeartbeats 4000000 in
set_option maxRecDepth 100000 in
theorem met_ask (l : Launch) (D : va_G) (dA : Nat → ClassId) (ad : Nat → Nat) (hJ : rgJ twL ad) (sz : Nat) (τ : Sto) (K : Int64 → Sto → Prop) (hT : T_ask τ K) : Met l yX6_ask (ws_ yX6_ask cX6_ask 4 (some .long)) ({ frames := 10, cells := 0, slots := 0, locals := 208 }) (va_Pc [.ref (ad 0)] (rgU D vwCl dA twL ad sz τ)) (va_Ql K (rgU D vwCl dA twL ad sz) (rgAd twL ad)) 0 0 (rgAd twL ad) := by
  refine tw_metl hJ (by decide) rfl (Nat.le_of_ble_eq_true rfl) ?_
  intro p e s m args below meth c Q hC hret hI ls hl
  have hx := hC.1.1
  have hb := hC.1.2.1
  have hl : lv_has ls 4 [(0, .ref (ad 0))] := hl
  have w_233 : ∀ (x1 : Int32) (n : Nat) (x2 : Int32) (τ : Sto) (H : Heap) (locs : List Loc) (ls : Array Slot), T_ask_233 K x1 n x2 τ → tI D dA ad sz s.heap τ H locs → lv_has ls 4 [(0, .ref (ad 0)), (1, .int x1), (2, .int x2)] → W p l e ({ frames := 10, cells := 0, slots := 0, locals := 208 }) s m args below meth c H locs 0 0 Q (F0 m 233 ls []) := by
    intro x1 n
    induction n with
    | zero => intro x2 τ H locs ls hT; exact hT.elim
    | succ n ih =>
      intro x2 τ H locs ls hT hI hl
      unfold T_ask_233 at hT
      refine lv_iload_n hx hb dX6_ask_233 rfl (lv_at hl 2 rfl) ?_
      refine lv_aload_n hx hb dX6_ask_234 rfl (lv_at hl 0 rfl) ?_
      refine tc_thingMany hC hI hT ⟨Nat.le_of_ble_eq_true rfl, Nat.le_of_ble_eq_true rfl⟩ ⟨Nat.zero_le _, Nat.zero_le _⟩ hl.1 (Nat.le_of_ble_eq_true rfl) dX6_ask_235 (fun r2 τ1 H locs hT hI => ?_)
      refine lv_icmp_ge (tgt := 258) hx hb dX6_ask_238 (by decide) (fun hc => ?_) (fun hc => ?_)
      · have hT := hT.1 hc
        refine lv_aload_n hx hb dX6_ask_258 rfl (lv_at hl 0 rfl) ?_
        refine tg_99 hC hI dX6_ask_259 ?_
        exact hret _ _ _ _ _ _ hT hI dX6_ask_262
      · have hT := hT.2 hc
        refine lv_aload_n hx hb dX6_ask_241 rfl (lv_at hl 0 rfl) ?_
        refine lv_iload_n hx hb dX6_ask_242 rfl (lv_at hl 1 rfl) ?_
        refine lv_aload_n hx hb dX6_ask_243 rfl (lv_at hl 0 rfl) ?_
        refine lv_iload_n hx hb dX6_ask_244 rfl (lv_at hl 2 rfl) ?_
        refine tc_qTold hC hI hT ⟨Nat.le_of_ble_eq_true rfl, Nat.le_of_ble_eq_true rfl⟩ ⟨Nat.zero_le _, Nat.zero_le _⟩ hl.1 (Nat.le_of_ble_eq_true rfl) dX6_ask_245 (fun r4 τ3 H locs hT hI => ?_)
        refine lv_iload_n hx hb dX6_ask_248 rfl (lv_at hl 2 rfl) ?_
        refine tc_qTakes hC hI hT ⟨Nat.le_of_ble_eq_true rfl, Nat.le_of_ble_eq_true rfl⟩ ⟨Nat.zero_le _, Nat.zero_le _⟩ hl.1 (Nat.le_of_ble_eq_true rfl) dX6_ask_249 (fun τ5 H locs hT hI => ?_)
        refine lv_iinc (v := x2 + 1) (lv' := [(2, .int (x2 + 1)), (0, .ref (ad 0)), (1, .int x1)]) hx hb dX6_ask_252 hl (k := 2) rfl rfl (Nat.le_of_ble_eq_true rfl) rfl (fun ls hl => ?_)
        refine lv_goto (tgt := 233) hx hb dX6_ask_255 (by decide) ?_
        exact ih (x2 + 1) τ5 _ _ _ hT hI (lv_sub hl [1, 2, 0] rfl)
  have w_177 : ∀ (x1 : Int32) (k167 : Int32 → Sto → Prop), (∀ (x2 : Int32) (τ : Sto) (H : Heap) (locs : List Loc) (ls : Array Slot), k167 x2 τ → tI D dA ad sz s.heap τ H locs → lv_has ls 4 [(0, .ref (ad 0)), (1, .int x1), (2, .int x2)] → W p l e ({ frames := 10, cells := 0, slots := 0, locals := 208 }) s m args below meth c H locs 0 0 Q (F0 m 167 ls [])) → ∀ (x2 : Int32) (n : Nat) (x3 : Int32) (τ : Sto) (H : Heap) (locs : List Loc) (ls : Array Slot), T_ask_177 K k167 x1 x2 n x3 τ → tI D dA ad sz s.heap τ H locs → lv_has ls 4 [(0, .ref (ad 0)), (1, .int x1), (2, .int x2), (3, .int x3)] → W p l e ({ frames := 10, cells := 0, slots := 0, locals := 208 }) s m args below meth c H locs 0 0 Q (F0 m 177 ls []) := by
    intro x1 k167 hk167 x2 n
    induction n with
    | zero => intro x3 τ H locs ls hT; exact hT.elim
    | succ n ih =>
      intro x3 τ H locs ls hT hI hl
      unfold T_ask_177 at hT
      refine lv_iload_n hx hb dX6_ask_177 rfl (lv_at hl 3 rfl) ?_
      refine lv_aload_n hx hb dX6_ask_178 rfl (lv_at hl 0 rfl) ?_
      refine tc_thingMany hC hI hT ⟨Nat.le_of_ble_eq_true rfl, Nat.le_of_ble_eq_true rfl⟩ ⟨Nat.zero_le _, Nat.zero_le _⟩ hl.1 (Nat.le_of_ble_eq_true rfl) dX6_ask_179 (fun r7 τ6 H locs hT hI => ?_)
      refine lv_icmp_ge (tgt := 220) hx hb dX6_ask_182 (by decide) (fun hc => ?_) (fun hc => ?_)
      · have hT := hT.1 hc
        refine lv_iinc (v := x2 + 1) (lv' := [(2, .int (x2 + 1)), (0, .ref (ad 0)), (1, .int x1), (3, .int x3)]) hx hb dX6_ask_220 hl (k := 2) rfl rfl (Nat.le_of_ble_eq_true rfl) rfl (fun ls hl => ?_)
        refine lv_goto (tgt := 167) hx hb dX6_ask_223 (by decide) ?_
        exact hk167 (x2 + 1) τ6 _ _ _ hT hI (lv_sub hl [1, 2, 0] rfl)
      · have hT := hT.2 hc
        refine lv_aload_n hx hb dX6_ask_185 rfl (lv_at hl 0 rfl) ?_
        refine tg_56 hC hI dX6_ask_186 ?_
        refine lv_bipush (v := 8) hx hb dX6_ask_189 (by decide) ?_
        refine lv_iload_n hx hb dX6_ask_191 rfl (lv_at hl 2 rfl) ?_
        refine lv_imul hx hb dX6_ask_192 ?_
        refine lv_iload_n hx hb dX6_ask_193 rfl (lv_at hl 3 rfl) ?_
        refine lv_iadd hx hb dX6_ask_194 ?_
        refine lv_aload_n hx hb dX6_ask_195 rfl (lv_at hl 0 rfl) ?_
        refine lv_iconst (v := 5) hx hb dX6_ask_196 (by decide) ?_
        refine lv_iload_n hx hb dX6_ask_197 rfl (lv_at hl 2 rfl) ?_
        refine lv_iadd hx hb dX6_ask_198 ?_
        refine lv_iload_n hx hb dX6_ask_199 rfl (lv_at hl 3 rfl) ?_
        refine tc_codesTell hC hI hT ⟨Nat.le_of_ble_eq_true rfl, Nat.le_of_ble_eq_true rfl⟩ ⟨Nat.zero_le _, Nat.zero_le _⟩ hl.1 (Nat.le_of_ble_eq_true rfl) dX6_ask_200 (fun r9 τ8 H locs hT hI => ?_)
        refine lv_lconst (v := 1) hx hb dX6_ask_203 (by decide) ?_
        refine rl_ne (tgt := 212) hx hb dX6_ask_204 dX6_ask_205 (by decide) (fun hc => ?_) (fun hc => ?_)
        · have hT := hT.1 hc
          refine lv_iconst (v := 0) hx hb dX6_ask_212 (by decide) ?_
          refine tw_iast hC hI tl_57 hT dX6_ask_213 (fun τ10 H locs hT hI => ?_)
          refine lv_iinc (v := x3 + 1) (lv' := [(3, .int (x3 + 1)), (0, .ref (ad 0)), (1, .int x1), (2, .int x2)]) hx hb dX6_ask_214 hl (k := 3) rfl rfl (Nat.le_of_ble_eq_true rfl) rfl (fun ls hl => ?_)
          refine lv_goto (tgt := 177) hx hb dX6_ask_217 (by decide) ?_
          exact ih (x3 + 1) τ10 _ _ _ hT hI (lv_sub hl [1, 2, 3, 0] rfl)
        · have hT := hT.2 hc
          refine lv_iconst (v := 1) hx hb dX6_ask_208 (by decide) ?_
          refine lv_goto (tgt := 213) hx hb dX6_ask_209 (by decide) ?_
          refine tw_iast hC hI tl_57 hT dX6_ask_213 (fun τ11 H locs hT hI => ?_)
          refine lv_iinc (v := x3 + 1) (lv' := [(3, .int (x3 + 1)), (0, .ref (ad 0)), (1, .int x1), (2, .int x2)]) hx hb dX6_ask_214 hl (k := 3) rfl rfl (Nat.le_of_ble_eq_true rfl) rfl (fun ls hl => ?_)
          refine lv_goto (tgt := 177) hx hb dX6_ask_217 (by decide) ?_
          exact ih (x3 + 1) τ11 _ _ _ hT hI (lv_sub hl [1, 2, 3, 0] rfl)
  have w_167 : ∀ (x1 : Int32) (n : Nat) (x2 : Int32) (τ : Sto) (H : Heap) (locs : List Loc) (ls : Array Slot), T_ask_167 K x1 n x2 τ → tI D dA ad sz s.heap τ H locs → lv_has ls 4 [(0, .ref (ad 0)), (1, .int x1), (2, .int x2)] → W p l e ({ frames := 10, cells := 0, slots := 0, locals := 208 }) s m args below meth c H locs 0 0 Q (F0 m 167 ls []) := by
    intro x1 n
    induction n with
    | zero => intro x2 τ H locs ls hT; exact hT.elim
    | succ n ih =>
      intro x2 τ H locs ls hT hI hl
      unfold T_ask_167 at hT
      refine lv_iload_n hx hb dX6_ask_167 rfl (lv_at hl 2 rfl) ?_
      refine lv_aload_n hx hb dX6_ask_168 rfl (lv_at hl 0 rfl) ?_
      refine tc_trialMany hC hI hT ⟨Nat.le_of_ble_eq_true rfl, Nat.le_of_ble_eq_true rfl⟩ ⟨Nat.zero_le _, Nat.zero_le _⟩ hl.1 (Nat.le_of_ble_eq_true rfl) dX6_ask_169 (fun r13 τ12 H locs hT hI => ?_)
      refine lv_icmp_ge (tgt := 226) hx hb dX6_ask_172 (by decide) (fun hc => ?_) (fun hc => ?_)
      · have hT := hT.1 hc
        refine lv_aload_n hx hb dX6_ask_226 rfl (lv_at hl 0 rfl) ?_
        refine lv_iconst (v := 3) hx hb dX6_ask_227 (by decide) ?_
        refine tp_50 hC hI hT dX6_ask_228 (fun τ14 H locs hT hI => ?_)
        refine lv_iconst (v := 0) hx hb dX6_ask_231 (by decide) ?_
        refine lv_istore_n (lv' := [(2, .int 0), (0, .ref (ad 0)), (1, .int x1)]) hx hb dX6_ask_232 rfl hl (Nat.le_of_ble_eq_true rfl) rfl (fun ls hl => ?_)
        obtain ⟨n233, hT⟩ := hT
        exact w_233 x1 n233 0 τ14 _ _ _ hT hI (lv_sub hl [1, 2, 0] rfl)
      · have hT := hT.2 hc
        refine lv_iconst (v := 0) hx hb dX6_ask_175 (by decide) ?_
        refine lv_istore_n (lv' := [(3, .int 0), (0, .ref (ad 0)), (1, .int x1), (2, .int x2)]) hx hb dX6_ask_176 rfl hl (Nat.le_of_ble_eq_true rfl) rfl (fun ls hl => ?_)
        obtain ⟨n177, hT⟩ := hT
        exact w_177 x1 (T_ask_167 K x1 n) (ih) x2 n177 0 τ12 _ _ _ hT hI (lv_sub hl [1, 2, 3, 0] rfl)
  have w_117 : ∀ (x1 : Int32) (τ : Sto) (H : Heap) (locs : List Loc) (ls : Array Slot), T_ask_117 K x1 τ → tI D dA ad sz s.heap τ H locs → lv_has ls 4 [(0, .ref (ad 0)), (1, .int x1)] → W p l e ({ frames := 10, cells := 0, slots := 0, locals := 208 }) s m args below meth c H locs 0 0 Q (F0 m 117 ls []) := by
    intro x1 τ H locs ls hT hI hl
    unfold T_ask_117 at hT
    refine lv_aload_n hx hb dX6_ask_117 rfl (lv_at hl 0 rfl) ?_
    refine lv_aload_n hx hb dX6_ask_118 rfl (lv_at hl 0 rfl) ?_
    refine tg_5 hC hI dX6_ask_119 ?_
    refine tp_7 hC hI hT dX6_ask_122 (fun τ15 H locs hT hI => ?_)
    refine lv_aload_n hx hb dX6_ask_125 rfl (lv_at hl 0 rfl) ?_
    refine lv_aload_n hx hb dX6_ask_126 rfl (lv_at hl 0 rfl) ?_
    refine tg_6 hC hI dX6_ask_127 ?_
    refine tp_8 hC hI hT dX6_ask_130 (fun τ16 H locs hT hI => ?_)
    refine lv_aload_n hx hb dX6_ask_133 rfl (lv_at hl 0 rfl) ?_
    refine tg_5 hC hI dX6_ask_134 ?_
    refine lv_if_eq (tgt := 144) hx hb dX6_ask_137 (by decide) (fun hc => ?_) (fun hc => ?_)
    · have hT := hT.1 hc
      refine lv_aload_n hx hb dX6_ask_144 rfl (lv_at hl 0 rfl) ?_
      refine lv_iload_n hx hb dX6_ask_145 rfl (lv_at hl 1 rfl) ?_
      refine lv_iconst (v := 2) hx hb dX6_ask_146 (by decide) ?_
      refine lv_icmp_ge (tgt := 156) hx hb dX6_ask_147 (by decide) (fun hc => ?_) (fun hc => ?_)
      · have hT := hT.1 hc
        refine lv_lconst (v := 0) hx hb dX6_ask_156 (by decide) ?_
        refine tp_99 hC hI hT dX6_ask_157 (fun τ17 H locs hT hI => ?_)
        refine lv_aload_n hx hb dX6_ask_160 rfl (lv_at hl 0 rfl) ?_
        refine lv_iconst (v := 1) hx hb dX6_ask_161 (by decide) ?_
        refine tp_100 hC hI (by decide) hT dX6_ask_162 (fun τ18 H locs hT hI => ?_)
        refine lv_iconst (v := 0) hx hb dX6_ask_165 (by decide) ?_
        refine lv_istore_n (lv' := [(2, .int 0), (0, .ref (ad 0)), (1, .int x1)]) hx hb dX6_ask_166 rfl hl (Nat.le_of_ble_eq_true rfl) rfl (fun ls hl => ?_)
        obtain ⟨n167, hT⟩ := hT
        exact w_167 x1 n167 0 τ18 _ _ _ hT hI (lv_sub hl [1, 2, 0] rfl)
      · have hT := hT.2 hc
        refine lv_ldc2 hx hb hC.1.2.2.2.1 (hC.1.2.2.2.2 _ q2429) dX6_ask_150 ?_
        refine lv_goto (tgt := 157) hx hb dX6_ask_153 (by decide) ?_
        refine tp_99 hC hI hT dX6_ask_157 (fun τ19 H locs hT hI => ?_)
        refine lv_aload_n hx hb dX6_ask_160 rfl (lv_at hl 0 rfl) ?_
        refine lv_iconst (v := 1) hx hb dX6_ask_161 (by decide) ?_
        refine tp_100 hC hI (by decide) hT dX6_ask_162 (fun τ20 H locs hT hI => ?_)
        refine lv_iconst (v := 0) hx hb dX6_ask_165 (by decide) ?_
        refine lv_istore_n (lv' := [(2, .int 0), (0, .ref (ad 0)), (1, .int x1)]) hx hb dX6_ask_166 rfl hl (Nat.le_of_ble_eq_true rfl) rfl (fun ls hl => ?_)
        obtain ⟨n167, hT⟩ := hT
        exact w_167 x1 n167 0 τ20 _ _ _ hT hI (lv_sub hl [1, 2, 0] rfl)
    · have hT := hT.2 hc
      refine lv_ldc2 hx hb hC.1.2.2.2.1 (hC.1.2.2.2.2 _ q2424) dX6_ask_140 ?_
      exact hret _ _ _ _ _ _ hT hI dX6_ask_143
  have w_93 : ∀ (x1 : Int32) (τ : Sto) (H : Heap) (locs : List Loc) (ls : Array Slot), T_ask_93 K x1 τ → tI D dA ad sz s.heap τ H locs → lv_has ls 4 [(0, .ref (ad 0)), (1, .int x1)] → W p l e ({ frames := 10, cells := 0, slots := 0, locals := 208 }) s m args below meth c H locs 0 0 Q (F0 m 93 ls []) := by
    intro x1 τ H locs ls hT hI hl
    unfold T_ask_93 at hT
    refine lv_aload_n hx hb dX6_ask_93 rfl (lv_at hl 0 rfl) ?_
    refine tg_5 hC hI dX6_ask_94 ?_
    refine lv_if_ne (tgt := 117) hx hb dX6_ask_97 (by decide) (fun hc => ?_) (fun hc => ?_)
    · have hT := hT.1 hc
      exact w_117 x1 τ _ _ _ hT hI (lv_sub hl [0, 1] rfl)
    · have hT := hT.2 hc
      refine lv_aload_n hx hb dX6_ask_100 rfl (lv_at hl 0 rfl) ?_
      refine tc_look hC hI hT ⟨Nat.le_of_ble_eq_true rfl, Nat.le_of_ble_eq_true rfl⟩ ⟨Nat.zero_le _, Nat.zero_le _⟩ hl.1 (Nat.le_of_ble_eq_true rfl) dX6_ask_101 (fun r22 τ21 H locs hT hI => ?_)
      refine lv_iconst (v := -1) hx hb dX6_ask_104 (by decide) ?_
      refine lv_icmp_eq (tgt := 117) hx hb dX6_ask_105 (by decide) (fun hc => ?_) (fun hc => ?_)
      · have hT := hT.1 hc
        exact w_117 x1 τ21 _ _ _ hT hI (lv_sub hl [0, 1] rfl)
      · have hT := hT.2 hc
        refine lv_aload_n hx hb dX6_ask_108 rfl (lv_at hl 0 rfl) ?_
        refine lv_iconst (v := 1) hx hb dX6_ask_109 (by decide) ?_
        refine lv_aload_n hx hb dX6_ask_110 rfl (lv_at hl 0 rfl) ?_
        refine tg_2 hC hI dX6_ask_111 ?_
        refine tc_fail hC hI hT ⟨Nat.le_of_ble_eq_true rfl, Nat.le_of_ble_eq_true rfl⟩ ⟨Nat.zero_le _, Nat.zero_le _⟩ hl.1 (Nat.le_of_ble_eq_true rfl) dX6_ask_114 (fun τ23 H locs hT hI => ?_)
        exact w_117 x1 τ23 _ _ _ hT hI (lv_sub hl [0, 1] rfl)
  unfold T_ask at hT
  refine lv_aload_n hx hb dX6_ask_0 rfl (lv_at hl 0 rfl) ?_
  refine lv_aload_n hx hb dX6_ask_1 rfl (lv_at hl 0 rfl) ?_
  refine tg_1 hC hI dX6_ask_2 ?_
  refine tp_3 hC hI hT dX6_ask_5 (fun τ24 H locs hT hI => ?_)
  refine lv_aload_n hx hb dX6_ask_8 rfl (lv_at hl 0 rfl) ?_
  refine lv_iconst (v := 0) hx hb dX6_ask_9 (by decide) ?_
  refine tp_1 hC hI hT dX6_ask_10 (fun τ25 H locs hT hI => ?_)
  refine lv_aload_n hx hb dX6_ask_13 rfl (lv_at hl 0 rfl) ?_
  refine lv_iconst (v := 0) hx hb dX6_ask_14 (by decide) ?_
  refine tp_2 hC hI hT dX6_ask_15 (fun τ26 H locs hT hI => ?_)
  refine lv_aload_n hx hb dX6_ask_18 rfl (lv_at hl 0 rfl) ?_
  refine lv_iconst (v := -1) hx hb dX6_ask_19 (by decide) ?_
  refine tp_4 hC hI hT dX6_ask_20 (fun τ27 H locs hT hI => ?_)
  refine lv_aload_n hx hb dX6_ask_23 rfl (lv_at hl 0 rfl) ?_
  refine lv_iconst (v := 0) hx hb dX6_ask_24 (by decide) ?_
  refine tp_5 hC hI hT dX6_ask_25 (fun τ28 H locs hT hI => ?_)
  refine lv_aload_n hx hb dX6_ask_28 rfl (lv_at hl 0 rfl) ?_
  refine lv_iconst (v := -1) hx hb dX6_ask_29 (by decide) ?_
  refine tp_6 hC hI hT dX6_ask_30 (fun τ29 H locs hT hI => ?_)
  refine lv_aload_n hx hb dX6_ask_33 rfl (lv_at hl 0 rfl) ?_
  refine lv_iconst (v := 3) hx hb dX6_ask_34 (by decide) ?_
  refine tp_50 hC hI hT dX6_ask_35 (fun τ30 H locs hT hI => ?_)
  refine lv_aload_n hx hb dX6_ask_38 rfl (lv_at hl 0 rfl) ?_
  refine lv_iconst (v := 0) hx hb dX6_ask_39 (by decide) ?_
  refine tp_92 hC hI hT dX6_ask_40 (fun τ31 H locs hT hI => ?_)
  refine lv_aload_n hx hb dX6_ask_43 rfl (lv_at hl 0 rfl) ?_
  refine lv_iconst (v := 0) hx hb dX6_ask_44 (by decide) ?_
  refine tp_94 hC hI hT dX6_ask_45 (fun τ32 H locs hT hI => ?_)
  refine lv_aload_n hx hb dX6_ask_48 rfl (lv_at hl 0 rfl) ?_
  refine lv_iconst (v := 0) hx hb dX6_ask_49 (by decide) ?_
  refine tp_95 hC hI hT dX6_ask_50 (fun τ33 H locs hT hI => ?_)
  refine lv_aload_n hx hb dX6_ask_53 rfl (lv_at hl 0 rfl) ?_
  refine lv_iconst (v := 0) hx hb dX6_ask_54 (by decide) ?_
  refine tp_96 hC hI hT dX6_ask_55 (fun τ34 H locs hT hI => ?_)
  refine lv_aload_n hx hb dX6_ask_58 rfl (lv_at hl 0 rfl) ?_
  refine tc_qKind hC hI hT ⟨Nat.le_of_ble_eq_true rfl, Nat.le_of_ble_eq_true rfl⟩ ⟨Nat.zero_le _, Nat.zero_le _⟩ hl.1 (Nat.le_of_ble_eq_true rfl) dX6_ask_59 (fun r36 τ35 H locs hT hI => ?_)
  refine lv_istore_n (lv' := [(1, .int r36), (0, .ref (ad 0))]) hx hb dX6_ask_62 rfl hl (Nat.le_of_ble_eq_true rfl) rfl (fun ls hl => ?_)
  refine lv_aload_n hx hb dX6_ask_63 rfl (lv_at hl 1 rfl) ?_
  refine tg_5 hC hI dX6_ask_64 ?_
  refine lv_if_ne (tgt := 82) hx hb dX6_ask_67 (by decide) (fun hc => ?_) (fun hc => ?_)
  · have hT := hT.1 hc
    refine lv_aload_n hx hb dX6_ask_82 rfl (lv_at hl 1 rfl) ?_
    refine tg_5 hC hI dX6_ask_83 ?_
    refine lv_if_ne (tgt := 93) hx hb dX6_ask_86 (by decide) (fun hc => ?_) (fun hc => ?_)
    · have hT := hT.1 hc
      exact w_93 r36 τ35 _ _ _ hT hI (lv_sub hl [1, 0] rfl)
    · have hT := hT.2 hc
      refine lv_aload_n hx hb dX6_ask_89 rfl (lv_at hl 1 rfl) ?_
      refine tc_qSums hC hI hT ⟨Nat.le_of_ble_eq_true rfl, Nat.le_of_ble_eq_true rfl⟩ ⟨Nat.zero_le _, Nat.zero_le _⟩ hl.1 (Nat.le_of_ble_eq_true rfl) dX6_ask_90 (fun τ37 H locs hT hI => ?_)
      exact w_93 r36 τ37 _ _ _ hT hI (lv_sub hl [1, 0] rfl)
  · have hT := hT.2 hc
    refine lv_iload_n hx hb dX6_ask_70 rfl (lv_at hl 0 rfl) ?_
    refine lv_iconst (v := 3) hx hb dX6_ask_71 (by decide) ?_
    refine lv_icmp_ge (tgt := 82) hx hb dX6_ask_72 (by decide) (fun hc => ?_) (fun hc => ?_)
    · have hT := hT.1 hc
      refine lv_aload_n hx hb dX6_ask_82 rfl (lv_at hl 1 rfl) ?_
      refine tg_5 hC hI dX6_ask_83 ?_
      refine lv_if_ne (tgt := 93) hx hb dX6_ask_86 (by decide) (fun hc => ?_) (fun hc => ?_)
      · have hT := hT.1 hc
        exact w_93 r36 τ35 _ _ _ hT hI (lv_sub hl [1, 0] rfl)
      · have hT := hT.2 hc
        refine lv_aload_n hx hb dX6_ask_89 rfl (lv_at hl 1 rfl) ?_
        refine tc_qSums hC hI hT ⟨Nat.le_of_ble_eq_true rfl, Nat.le_of_ble_eq_true rfl⟩ ⟨Nat.zero_le _, Nat.zero_le _⟩ hl.1 (Nat.le_of_ble_eq_true rfl) dX6_ask_90 (fun τ38 H locs hT hI => ?_)
        exact w_93 r36 τ38 _ _ _ hT hI (lv_sub hl [1, 0] rfl)
    · have hT := hT.2 hc
      refine lv_aload_n hx hb dX6_ask_75 rfl (lv_at hl 1 rfl) ?_
      refine tc_qTest hC hI hT ⟨Nat.le_of_ble_eq_true rfl, Nat.le_of_ble_eq_true rfl⟩ ⟨Nat.zero_le _, Nat.zero_le _⟩ hl.1 (Nat.le_of_ble_eq_true rfl) dX6_ask_76 (fun τ39 H locs hT hI => ?_)
      refine lv_goto (tgt := 93) hx hb dX6_ask_79 (by decide) ?_
      exact w_93 r36 τ39 _ _ _ hT hI (lv_sub hl [1, 0] rfl)
set_option maxHeartbeats 4000000 in
set_option maxRecDepth 100000 in
theorem met_writes (l : Launch) (D : va_G) (dA : Nat → ClassId) (ad : Nat → Nat) (hJ : rgJ twL ad) (sz : Nat) (τ : Sto) (x1 : Int32) (K : Sto → Prop) (hT : T_writes τ x1 K) : Met l yX6_writes (ws_ yX6_writes cX6_writes 2 (none)) ({ frames := 1, cells := 0, slots := 0, locals := 12 }) (va_Pc [.ref (ad 0), .int x1] (rgU D vwCl dA twL ad sz τ)) (va_Qv K (rgU D vwCl dA twL ad sz) (rgAd twL ad)) 0 0 (rgAd twL ad) := by
  refine tw_metv hJ (by decide) rfl (Nat.le_of_ble_eq_true rfl) ?_
  intro p e s m args below meth c Q hC hret hI ls hl
  have hx := hC.1.1
  have hb := hC.1.2.1
  have hl : lv_has ls 2 [(0, .ref (ad 0)), (1, .int x1)] := hl
  unfold T_writes at hT
  refine lv_aload_n hx hb dX6_writes_0 rfl (lv_at hl 0 rfl) ?_
  refine tg_101 hC hI dX6_writes_1 ?_
  refine lv_aload_n hx hb dX6_writes_4 rfl (lv_at hl 0 rfl) ?_
  refine tg_102 hC hI dX6_writes_5 ?_
  refine lv_iload_n hx hb dX6_writes_8 rfl (lv_at hl 1 rfl) ?_
  refine tw_iast hC hI tl_102 hT dX6_writes_9 (fun τ1 H locs hT hI => ?_)
  refine lv_aload_n hx hb dX6_writes_10 rfl (lv_at hl 0 rfl) ?_
  refine lv_dup hx hb dX6_writes_11 rfl ?_
  refine tg_102 hC hI dX6_writes_12 ?_
  refine lv_iconst (v := 1) hx hb dX6_writes_15 (by decide) ?_
  refine lv_iadd hx hb dX6_writes_16 ?_
  refine tp_102 hC hI hT dX6_writes_17 (fun τ2 H locs hT hI => ?_)
  exact hret _ _ _ _ _ hT hI dX6_writes_20
theorem tc_writes {p : Program} {l : Launch} {e : Env} {R : Room} {s : State} {m : MethodId} {args : Array Value} {below : List Frame} {meth : Method} {c : Code} {H : Heap} {locs : List Loc} {cells slots : Nat} {Q : State → Prop} {cc : ByteArray} {nL : Nat} {D : va_G} {dA : Nat → ClassId} {ad : Nat → Nat} {τ : Sto} {pc sz : Nat} {ls : Array Slot} {rest : List Value} {H0 : Heap} {x1 : Int32} {K : Sto → Prop} (hC : tC p m c cc nL s args D dA ad) (hI : tI D dA ad sz H0 τ H locs) (hT : T_writes τ x1 K) (hR : 1 + 1 ≤ R.frames ∧ 8 + (2 + 11) + 12 ≤ R.locals) (hf : cells ≤ R.cells ∧ slots ≤ R.slots) (hsz : ls.size = nL) (hroom : (rest.map fun v => v.category).sum ≤ 8) (hdg : decode cc pc = .ok (.invokevirtual 682, 3)) (kk : ∀ (τ1 : Sto) (H1 : Heap) (locs1 : List Loc), K τ1 → tI D dA ad sz H0 τ1 H1 locs1 → W p l e R s m args below meth c H1 locs1 cells slots Q (F0 m (pc + 3) ls (rest))) : W p l e R s m args below meth c H locs cells slots Q (F0 m pc ls (.int x1 :: .ref (ad 0) :: rest)) :=
  rg_callv (rg_runV hC.1 hC.2.1 hI.1 hI.2.1 tl_0 rfl (met_writes l D dA ad hC.2.2 sz τ x1 K hT) (lw_V q2540 q2542 qs154 q170 q2543) 1 (by decide +kernel) ⟨rfl, rfl⟩ hR rfl hsz rfl hroom hf hdg) hI.2.2 (fun τ1 H1 l1 hk hz hP hS => kk τ1 H1 l1 hk ⟨hP, hz, hS⟩)
set_option maxHeartbeats 4000000 in
set_option maxRecDepth 100000 in
theorem met_checked (l : Launch) (D : va_G) (dA : Nat → ClassId) (ad : Nat → Nat) (hJ : rgJ twL ad) (sz : Nat) (τ : Sto) (x0 : Nat) (x1 : Int32) (K : Int32 → Sto → Prop) (hT : T_checked τ x0 x1 K) : Met l yX6_checked (ws_ yX6_checked cX6_checked 4 (some .int)) ({ frames := 1, cells := 0, slots := 0, locals := 12 }) (va_Pc [.ref (ad x0), .int x1] (rgU D vwCl dA twL ad sz τ)) (va_Qi K (rgU D vwCl dA twL ad sz) (rgAd twL ad)) 0 0 (rgAd twL ad) := by
  refine tw_meti hJ (by decide) rfl (Nat.le_of_ble_eq_true rfl) ?_
  intro p e s m args below meth c Q hC hret hI ls hl
  have hx := hC.1.1
  have hb := hC.1.2.1
  have hl : lv_has ls 4 [(0, .ref (ad x0)), (1, .int x1)] := hl
  have w_5 : ∀ (x0 : Nat) (x1 : Int32) (n : Nat) (x2 : Int32) (x3 : Int32) (τ : Sto) (H : Heap) (locs : List Loc) (ls : Array Slot), T_checked_5 K x0 x1 n x2 x3 τ → tI D dA ad sz s.heap τ H locs → lv_has ls 4 [(0, .ref (ad x0)), (1, .int x1), (2, .int x2), (3, .int x3)] → W p l e ({ frames := 1, cells := 0, slots := 0, locals := 12 }) s m args below meth c H locs 0 0 Q (F0 m 5 ls []) := by
    intro x0 x1 n
    induction n with
    | zero => intro x2 x3 τ H locs ls hT; exact hT.elim
    | succ n ih =>
      intro x2 x3 τ H locs ls hT hI hl
      unfold T_checked_5 at hT
      refine lv_iload_n hx hb dX6_checked_5 rfl (lv_at hl 3 rfl) ?_
      refine lv_iload_n hx hb dX6_checked_6 rfl (lv_at hl 1 rfl) ?_
      refine lv_icmp_ge (tgt := 28) hx hb dX6_checked_7 (by decide) (fun hc => ?_) (fun hc => ?_)
      · have hT := hT.1 hc
        refine lv_iload_n hx hb dX6_checked_28 rfl (lv_at hl 2 rfl) ?_
        exact hret _ _ _ _ _ _ hT hI dX6_checked_29
      · have hT := hT.2 hc
        refine lv_iconst (v := 3) hx hb dX6_checked_10 (by decide) ?_
        refine lv_iload_n hx hb dX6_checked_11 rfl (lv_at hl 2 rfl) ?_
        refine lv_imul hx hb dX6_checked_12 ?_
        refine lv_aload_n hx hb dX6_checked_13 rfl (lv_at hl 0 rfl) ?_
        refine lv_iload_n hx hb dX6_checked_14 rfl (lv_at hl 3 rfl) ?_
        refine tw_iald hC hI hT.1 hT.2 dX6_checked_15 (fun hT => ?_)
        refine lv_iadd hx hb dX6_checked_16 ?_
        refine lv_sipush (v := 251) hx hb dX6_checked_17 (by decide) ?_
        refine lv_irem hx hb dX6_checked_20 (by decide) ?_
        refine lv_topi (fun y1 h2 => ?_)
        have hT := hT y1 h2
        refine lv_istore_n (lv' := [(2, .int y1), (0, .ref (ad x0)), (1, .int x1), (3, .int x3)]) hx hb dX6_checked_21 rfl hl (Nat.le_of_ble_eq_true rfl) rfl (fun ls hl => ?_)
        refine lv_iinc (v := x3 + 1) (lv' := [(3, .int (x3 + 1)), (2, .int y1), (0, .ref (ad x0)), (1, .int x1)]) hx hb dX6_checked_22 hl (k := 3) rfl rfl (Nat.le_of_ble_eq_true rfl) rfl (fun ls hl => ?_)
        refine lv_goto (tgt := 5) hx hb dX6_checked_25 (by decide) ?_
        exact ih y1 (x3 + 1) τ _ _ _ hT hI (lv_sub hl [2, 3, 1, 0] rfl)
  unfold T_checked at hT
  refine lv_bipush (v := 113) hx hb dX6_checked_0 (by decide) ?_
  refine lv_istore_n (lv' := [(2, .int 113), (0, .ref (ad x0)), (1, .int x1)]) hx hb dX6_checked_2 rfl hl (Nat.le_of_ble_eq_true rfl) rfl (fun ls hl => ?_)
  refine lv_iconst (v := 0) hx hb dX6_checked_3 (by decide) ?_
  refine lv_istore_n (lv' := [(3, .int 0), (2, .int 113), (0, .ref (ad x0)), (1, .int x1)]) hx hb dX6_checked_4 rfl hl (Nat.le_of_ble_eq_true rfl) rfl (fun ls hl => ?_)
  obtain ⟨n5, hT⟩ := hT
  exact w_5 x0 x1 n5 113 0 τ _ _ _ hT hI (lv_sub hl [2, 3, 1, 0] rfl)
theorem tc_checked {p : Program} {l : Launch} {e : Env} {R : Room} {s : State} {m : MethodId} {args : Array Value} {below : List Frame} {meth : Method} {c : Code} {H : Heap} {locs : List Loc} {cells slots : Nat} {Q : State → Prop} {cc : ByteArray} {nL : Nat} {D : va_G} {dA : Nat → ClassId} {ad : Nat → Nat} {τ : Sto} {pc sz : Nat} {ls : Array Slot} {rest : List Value} {H0 : Heap} {x0 : Nat} {x1 : Int32} {K : Int32 → Sto → Prop} (hC : tC p m c cc nL s args D dA ad) (hI : tI D dA ad sz H0 τ H locs) (hT : T_checked τ x0 x1 K) (hR : 1 + 1 ≤ R.frames ∧ 8 + (4 + 11) + 12 ≤ R.locals) (hf : cells ≤ R.cells ∧ slots ≤ R.slots) (hsz : ls.size = nL) (hroom : (rest.map fun v => v.category).sum ≤ 8) (hdg : decode cc pc = .ok (.invokestatic 685, 3)) (kk : ∀ (r : Int32) (τ1 : Sto) (H1 : Heap) (locs1 : List Loc), K r τ1 → tI D dA ad sz H0 τ1 H1 locs1 → W p l e R s m args below meth c H1 locs1 cells slots Q (F0 m (pc + 3) ls (.int r :: rest))) : W p l e R s m args below meth c H locs cells slots Q (F0 m pc ls (.int x1 :: .ref (ad x0) :: rest)) :=
  rg_calli (rg_runS hC.1 hC.2.1 hI.1 hI.2.1 (met_checked l D dA ad hC.2.2 sz τ x0 x1 K hT) (lw_S q2544 q2545 q170 q2546) 2 (by decide +kernel) ⟨rfl, rfl⟩ hR rfl hsz rfl hroom hf hdg) hI.2.2 (fun r τ1 H1 l1 hk hz hP hS => kk r τ1 H1 l1 hk ⟨hP, hz, hS⟩)
set_option maxHeartbeats 4000000 in
set_option maxRecDepth 100000 in
theorem met_image (l : Launch) (D : va_G) (dA : Nat → ClassId) (ad : Nat → Nat) (hJ : rgJ twL ad) (sz : Nat) (τ : Sto) (K : Int32 → Sto → Prop) (hT : T_image τ K) : Met l yX6_image (ws_ yX6_image cX6_image 2 (some .int)) ({ frames := 2, cells := 0, slots := 0, locals := 35 }) (va_Pc [.ref (ad 0)] (rgU D vwCl dA twL ad sz τ)) (va_Qi K (rgU D vwCl dA twL ad sz) (rgAd twL ad)) 0 0 (rgAd twL ad) := by
  refine tw_meti hJ (by decide) rfl (Nat.le_of_ble_eq_true rfl) ?_
  intro p e s m args below meth c Q hC hret hI ls hl
  have hx := hC.1.1
  have hb := hC.1.2.1
  have hl : lv_has ls 2 [(0, .ref (ad 0))] := hl
  have w_35 : ∀ (n : Nat) (x1 : Int32) (τ : Sto) (H : Heap) (locs : List Loc) (ls : Array Slot), T_image_35 K n x1 τ → tI D dA ad sz s.heap τ H locs → lv_has ls 2 [(0, .ref (ad 0)), (1, .int x1)] → W p l e ({ frames := 2, cells := 0, slots := 0, locals := 35 }) s m args below meth c H locs 0 0 Q (F0 m 35 ls []) := by
    intro n
    induction n with
    | zero => intro x1 τ H locs ls hT; exact hT.elim
    | succ n ih =>
      intro x1 τ H locs ls hT hI hl
      unfold T_image_35 at hT
      refine lv_iload_n hx hb dX6_image_35 rfl (lv_at hl 1 rfl) ?_
      refine lv_iconst (v := 5) hx hb dX6_image_36 (by decide) ?_
      refine lv_aload_n hx hb dX6_image_37 rfl (lv_at hl 0 rfl) ?_
      refine tc_thingMany hC hI hT ⟨Nat.le_of_ble_eq_true rfl, Nat.le_of_ble_eq_true rfl⟩ ⟨Nat.zero_le _, Nat.zero_le _⟩ hl.1 (Nat.le_of_ble_eq_true rfl) dX6_image_38 (fun r2 τ1 H locs hT hI => ?_)
      refine lv_imul hx hb dX6_image_41 ?_
      refine lv_icmp_ge (tgt := 63) hx hb dX6_image_42 (by decide) (fun hc => ?_) (fun hc => ?_)
      · have hT := hT.1 hc
        refine lv_aload_n hx hb dX6_image_63 rfl (lv_at hl 0 rfl) ?_
        refine lv_aload_n hx hb dX6_image_64 rfl (lv_at hl 0 rfl) ?_
        refine tg_101 hC hI dX6_image_65 ?_
        refine lv_aload_n hx hb dX6_image_68 rfl (lv_at hl 0 rfl) ?_
        refine tg_102 hC hI dX6_image_69 ?_
        refine tc_checked hC hI hT ⟨Nat.le_of_ble_eq_true rfl, Nat.le_of_ble_eq_true rfl⟩ ⟨Nat.zero_le _, Nat.zero_le _⟩ hl.1 (Nat.le_of_ble_eq_true rfl) dX6_image_72 (fun r4 τ3 H locs hT hI => ?_)
        refine tc_writes hC hI hT ⟨Nat.le_of_ble_eq_true rfl, Nat.le_of_ble_eq_true rfl⟩ ⟨Nat.zero_le _, Nat.zero_le _⟩ hl.1 (Nat.le_of_ble_eq_true rfl) dX6_image_75 (fun τ5 H locs hT hI => ?_)
        refine lv_aload_n hx hb dX6_image_78 rfl (lv_at hl 0 rfl) ?_
        refine tg_102 hC hI dX6_image_79 ?_
        exact hret _ _ _ _ _ _ hT hI dX6_image_82
      · have hT := hT.2 hc
        refine lv_aload_n hx hb dX6_image_45 rfl (lv_at hl 0 rfl) ?_
        refine lv_aload_n hx hb dX6_image_46 rfl (lv_at hl 0 rfl) ?_
        refine tg_51 hC hI dX6_image_47 ?_
        refine lv_iconst (v := 1) hx hb dX6_image_50 (by decide) ?_
        refine lv_iload_n hx hb dX6_image_51 rfl (lv_at hl 1 rfl) ?_
        refine lv_iadd hx hb dX6_image_52 ?_
        refine tw_iald hC hI tl_52 hT dX6_image_53 (fun hT => ?_)
        refine tc_writes hC hI hT ⟨Nat.le_of_ble_eq_true rfl, Nat.le_of_ble_eq_true rfl⟩ ⟨Nat.zero_le _, Nat.zero_le _⟩ hl.1 (Nat.le_of_ble_eq_true rfl) dX6_image_54 (fun τ6 H locs hT hI => ?_)
        refine lv_iinc (v := x1 + 1) (lv' := [(1, .int (x1 + 1)), (0, .ref (ad 0))]) hx hb dX6_image_57 hl (k := 1) rfl rfl (Nat.le_of_ble_eq_true rfl) rfl (fun ls hl => ?_)
        refine lv_goto (tgt := 35) hx hb dX6_image_60 (by decide) ?_
        exact ih (x1 + 1) τ6 _ _ _ hT hI (lv_sub hl [1, 0] rfl)
  unfold T_image at hT
  refine lv_aload_n hx hb dX6_image_0 rfl (lv_at hl 0 rfl) ?_
  refine lv_iconst (v := 0) hx hb dX6_image_1 (by decide) ?_
  refine tp_102 hC hI hT dX6_image_2 (fun τ7 H locs hT hI => ?_)
  refine lv_aload_n hx hb dX6_image_5 rfl (lv_at hl 0 rfl) ?_
  refine lv_aload_n hx hb dX6_image_6 rfl (lv_at hl 0 rfl) ?_
  refine tg_51 hC hI dX6_image_7 ?_
  refine lv_iconst (v := 0) hx hb dX6_image_10 (by decide) ?_
  refine tw_iald hC hI tl_52 hT dX6_image_11 (fun hT => ?_)
  refine lv_sipush (v := 256) hx hb dX6_image_12 (by decide) ?_
  refine lv_idiv hx hb dX6_image_15 (by decide) ?_
  refine tc_writes hC hI hT ⟨Nat.le_of_ble_eq_true rfl, Nat.le_of_ble_eq_true rfl⟩ ⟨Nat.zero_le _, Nat.zero_le _⟩ hl.1 (Nat.le_of_ble_eq_true rfl) dX6_image_16 (fun τ8 H locs hT hI => ?_)
  refine lv_aload_n hx hb dX6_image_19 rfl (lv_at hl 0 rfl) ?_
  refine lv_aload_n hx hb dX6_image_20 rfl (lv_at hl 0 rfl) ?_
  refine tg_51 hC hI dX6_image_21 ?_
  refine lv_iconst (v := 0) hx hb dX6_image_24 (by decide) ?_
  refine tw_iald hC hI tl_52 hT dX6_image_25 (fun hT => ?_)
  refine lv_sipush (v := 256) hx hb dX6_image_26 (by decide) ?_
  refine lv_irem hx hb dX6_image_29 (by decide) ?_
  refine tc_writes hC hI hT ⟨Nat.le_of_ble_eq_true rfl, Nat.le_of_ble_eq_true rfl⟩ ⟨Nat.zero_le _, Nat.zero_le _⟩ hl.1 (Nat.le_of_ble_eq_true rfl) dX6_image_30 (fun τ9 H locs hT hI => ?_)
  refine lv_iconst (v := 0) hx hb dX6_image_33 (by decide) ?_
  refine lv_istore_n (lv' := [(1, .int 0), (0, .ref (ad 0))]) hx hb dX6_image_34 rfl hl (Nat.le_of_ble_eq_true rfl) rfl (fun ls hl => ?_)
  obtain ⟨n35, hT⟩ := hT
  exact w_35 n35 0 τ9 _ _ _ hT hI (lv_sub hl [1, 0] rfl)
set_option maxHeartbeats 4000000 in
set_option maxRecDepth 100000 in
theorem met_octet (l : Launch) (D : va_G) (dA : Nat → ClassId) (ad : Nat → Nat) (hJ : rgJ twL ad) (sz : Nat) (τ : Sto) (x1 : Int32) (K : Int32 → Sto → Prop) (hT : T_octet τ x1 K) : Met l yX6_octet (ws_ yX6_octet cX6_octet 2 (some .int)) ({ frames := 1, cells := 0, slots := 0, locals := 12 }) (va_Pc [.ref (ad 0), .int x1] (rgU D vwCl dA twL ad sz τ)) (va_Qi K (rgU D vwCl dA twL ad sz) (rgAd twL ad)) 0 0 (rgAd twL ad) := by
  refine tw_meti hJ (by decide) rfl (Nat.le_of_ble_eq_true rfl) ?_
  intro p e s m args below meth c Q hC hret hI ls hl
  have hx := hC.1.1
  have hb := hC.1.2.1
  have hl : lv_has ls 2 [(0, .ref (ad 0)), (1, .int x1)] := hl
  unfold T_octet at hT
  refine lv_iload_n hx hb dX6_octet_0 rfl (lv_at hl 1 rfl) ?_
  refine lv_if_lt (tgt := 21) hx hb dX6_octet_1 (by decide) (fun hc => ?_) (fun hc => ?_)
  · have hT := hT.1 hc
    refine lv_iconst (v := -1) hx hb dX6_octet_21 (by decide) ?_
    exact hret _ _ _ _ _ _ hT hI dX6_octet_22
  · have hT := hT.2 hc
    refine lv_iload_n hx hb dX6_octet_4 rfl (lv_at hl 1 rfl) ?_
    refine lv_aload_n hx hb dX6_octet_5 rfl (lv_at hl 0 rfl) ?_
    refine tg_102 hC hI dX6_octet_6 ?_
    refine lv_icmp_ge (tgt := 21) hx hb dX6_octet_9 (by decide) (fun hc => ?_) (fun hc => ?_)
    · have hT := hT.1 hc
      refine lv_iconst (v := -1) hx hb dX6_octet_21 (by decide) ?_
      exact hret _ _ _ _ _ _ hT hI dX6_octet_22
    · have hT := hT.2 hc
      refine lv_aload_n hx hb dX6_octet_12 rfl (lv_at hl 0 rfl) ?_
      refine tg_101 hC hI dX6_octet_13 ?_
      refine lv_iload_n hx hb dX6_octet_16 rfl (lv_at hl 1 rfl) ?_
      refine tw_iald hC hI tl_102 hT dX6_octet_17 (fun hT => ?_)
      refine lv_goto (tgt := 22) hx hb dX6_octet_18 (by decide) ?_
      exact hret _ _ _ _ _ _ hT hI dX6_octet_22
set_option maxHeartbeats 4000000 in
set_option maxRecDepth 100000 in
theorem met_isThingTold (l : Launch) (D : va_G) (dA : Nat → ClassId) (ad : Nat → Nat) (hJ : rgJ twL ad) (sz : Nat) (τ : Sto) (x1 : Int32) (K : Int32 → Sto → Prop) (hT : T_isThingTold τ x1 K) : Met l yX6_isThingTold (ws_ yX6_isThingTold cX6_isThingTold 2 (some .boolean)) ({ frames := 1, cells := 0, slots := 0, locals := 12 }) (va_Pc [.ref (ad 0), .int x1] (rgU D vwCl dA twL ad sz τ)) (va_Qi K (rgU D vwCl dA twL ad sz) (rgAd twL ad)) 0 0 (rgAd twL ad) := by
  refine tw_metz hJ (by decide) rfl (Nat.le_of_ble_eq_true rfl) ?_
  intro p e s m args below meth c Q hC hret hI ls hl
  have hx := hC.1.1
  have hb := hC.1.2.1
  have hl : lv_has ls 2 [(0, .ref (ad 0)), (1, .int x1)] := hl
  have w_33 : ∀ (x1 : Int32) (s0 : Int32) (s1 : Int32) (τ : Sto) (H : Heap) (locs : List Loc) (ls : Array Slot), T_isThingTold_33 K x1 s0 s1 τ → tI D dA ad sz s.heap τ H locs → lv_has ls 2 [(0, .ref (ad 0)), (1, .int x1)] → W p l e ({ frames := 1, cells := 0, slots := 0, locals := 12 }) s m args below meth c H locs 0 0 Q (F0 m 33 ls [.int s0, .int s1]) := by
    intro x1 s0 s1 τ H locs ls hT hI hl
    unfold T_isThingTold_33 at hT
    refine lv_icmp_le (tgt := 38) hx hb dX6_isThingTold_33 (by decide) (fun hc => ?_) (fun hc => ?_)
    · have hT := hT.1 hc
      refine lv_aload_n hx hb dX6_isThingTold_38 rfl (lv_at hl 0 rfl) ?_
      refine tg_0 hC hI dX6_isThingTold_39 ?_
      refine lv_iload_n hx hb dX6_isThingTold_42 rfl (lv_at hl 1 rfl) ?_
      refine lv_iconst (v := 1) hx hb dX6_isThingTold_43 (by decide) ?_
      refine lv_iadd hx hb dX6_isThingTold_44 ?_
      refine tw_iald hC hI tl_1 hT dX6_isThingTold_45 (fun hT => ?_)
      refine lv_bipush (v := 99) hx hb dX6_isThingTold_46 (by decide) ?_
      refine lv_icmp_gt (tgt := 81) hx hb dX6_isThingTold_48 (by decide) (fun hc => ?_) (fun hc => ?_)
      · have hT := hT.1 hc
        refine lv_iconst (v := 0) hx hb dX6_isThingTold_81 (by decide) ?_
        exact hret _ _ _ _ _ _ (by decide) hT hI dX6_isThingTold_82
      · have hT := hT.2 hc
        refine lv_aload_n hx hb dX6_isThingTold_51 rfl (lv_at hl 0 rfl) ?_
        refine tg_0 hC hI dX6_isThingTold_52 ?_
        refine lv_iload_n hx hb dX6_isThingTold_55 rfl (lv_at hl 1 rfl) ?_
        refine lv_iconst (v := 2) hx hb dX6_isThingTold_56 (by decide) ?_
        refine lv_iadd hx hb dX6_isThingTold_57 ?_
        refine tw_iald hC hI tl_1 hT dX6_isThingTold_58 (fun hT => ?_)
        refine lv_bipush (v := 99) hx hb dX6_isThingTold_59 (by decide) ?_
        refine lv_icmp_gt (tgt := 81) hx hb dX6_isThingTold_61 (by decide) (fun hc => ?_) (fun hc => ?_)
        · have hT := hT.1 hc
          refine lv_iconst (v := 0) hx hb dX6_isThingTold_81 (by decide) ?_
          exact hret _ _ _ _ _ _ (by decide) hT hI dX6_isThingTold_82
        · have hT := hT.2 hc
          refine lv_aload_n hx hb dX6_isThingTold_64 rfl (lv_at hl 0 rfl) ?_
          refine tg_0 hC hI dX6_isThingTold_65 ?_
          refine lv_iload_n hx hb dX6_isThingTold_68 rfl (lv_at hl 1 rfl) ?_
          refine lv_iconst (v := 3) hx hb dX6_isThingTold_69 (by decide) ?_
          refine lv_iadd hx hb dX6_isThingTold_70 ?_
          refine tw_iald hC hI tl_1 hT dX6_isThingTold_71 (fun hT => ?_)
          refine lv_bipush (v := 99) hx hb dX6_isThingTold_72 (by decide) ?_
          refine lv_icmp_gt (tgt := 81) hx hb dX6_isThingTold_74 (by decide) (fun hc => ?_) (fun hc => ?_)
          · have hT := hT.1 hc
            refine lv_iconst (v := 0) hx hb dX6_isThingTold_81 (by decide) ?_
            exact hret _ _ _ _ _ _ (by decide) hT hI dX6_isThingTold_82
          · have hT := hT.2 hc
            refine lv_iconst (v := 1) hx hb dX6_isThingTold_77 (by decide) ?_
            refine lv_goto (tgt := 82) hx hb dX6_isThingTold_78 (by decide) ?_
            exact hret _ _ _ _ _ _ (by decide) hT hI dX6_isThingTold_82
    · have hT := hT.2 hc
      refine lv_iconst (v := 0) hx hb dX6_isThingTold_36 (by decide) ?_
      exact hret _ _ _ _ _ _ (by decide) hT hI dX6_isThingTold_37
  unfold T_isThingTold at hT
  refine lv_aload_n hx hb dX6_isThingTold_0 rfl (lv_at hl 0 rfl) ?_
  refine tg_0 hC hI dX6_isThingTold_1 ?_
  refine lv_iload_n hx hb dX6_isThingTold_4 rfl (lv_at hl 1 rfl) ?_
  refine tw_iald hC hI tl_1 hT dX6_isThingTold_5 (fun hT => ?_)
  refine lv_iconst (v := 2) hx hb dX6_isThingTold_6 (by decide) ?_
  refine lv_icmp_gt (tgt := 36) hx hb dX6_isThingTold_7 (by decide) (fun hc => ?_) (fun hc => ?_)
  · have hT := hT.1 hc
    refine lv_iconst (v := 0) hx hb dX6_isThingTold_36 (by decide) ?_
    exact hret _ _ _ _ _ _ (by decide) hT hI dX6_isThingTold_37
  · have hT := hT.2 hc
    refine lv_aload_n hx hb dX6_isThingTold_10 rfl (lv_at hl 0 rfl) ?_
    refine tg_0 hC hI dX6_isThingTold_11 ?_
    refine lv_iload_n hx hb dX6_isThingTold_14 rfl (lv_at hl 1 rfl) ?_
    refine lv_iconst (v := 4) hx hb dX6_isThingTold_15 (by decide) ?_
    refine lv_iadd hx hb dX6_isThingTold_16 ?_
    refine tw_iald hC hI tl_1 hT dX6_isThingTold_17 (fun hT => ?_)
    refine lv_aload_n hx hb dX6_isThingTold_18 rfl (lv_at hl 0 rfl) ?_
    refine tg_0 hC hI dX6_isThingTold_19 ?_
    refine lv_iload_n hx hb dX6_isThingTold_22 rfl (lv_at hl 1 rfl) ?_
    refine tw_iald hC hI tl_1 hT dX6_isThingTold_23 (fun hT => ?_)
    refine lv_iconst (v := 2) hx hb dX6_isThingTold_24 (by decide) ?_
    refine lv_icmp_ne (tgt := 32) hx hb dX6_isThingTold_25 (by decide) (fun hc => ?_) (fun hc => ?_)
    · have hT := hT.1 hc
      refine lv_iconst (v := 0) hx hb dX6_isThingTold_32 (by decide) ?_
      exact w_33 x1 0 (τ.1 1 (Int32.toNatClampNeg (x1 + 4))) τ _ _ _ hT hI (lv_sub hl [0, 1] rfl)
    · have hT := hT.2 hc
      refine lv_iconst (v := 1) hx hb dX6_isThingTold_28 (by decide) ?_
      refine lv_goto (tgt := 33) hx hb dX6_isThingTold_29 (by decide) ?_
      exact w_33 x1 1 (τ.1 1 (Int32.toNatClampNeg (x1 + 4))) τ _ _ _ hT hI (lv_sub hl [0, 1] rfl)
theorem tc_isThingTold {p : Program} {l : Launch} {e : Env} {R : Room} {s : State} {m : MethodId} {args : Array Value} {below : List Frame} {meth : Method} {c : Code} {H : Heap} {locs : List Loc} {cells slots : Nat} {Q : State → Prop} {cc : ByteArray} {nL : Nat} {D : va_G} {dA : Nat → ClassId} {ad : Nat → Nat} {τ : Sto} {pc sz : Nat} {ls : Array Slot} {rest : List Value} {H0 : Heap} {x1 : Int32} {K : Int32 → Sto → Prop} (hC : tC p m c cc nL s args D dA ad) (hI : tI D dA ad sz H0 τ H locs) (hT : T_isThingTold τ x1 K) (hR : 1 + 1 ≤ R.frames ∧ 8 + (2 + 11) + 12 ≤ R.locals) (hf : cells ≤ R.cells ∧ slots ≤ R.slots) (hsz : ls.size = nL) (hroom : (rest.map fun v => v.category).sum ≤ 8) (hdg : decode cc pc = .ok (.invokevirtual 689, 3)) (kk : ∀ (r : Int32) (τ1 : Sto) (H1 : Heap) (locs1 : List Loc), K r τ1 → tI D dA ad sz H0 τ1 H1 locs1 → W p l e R s m args below meth c H1 locs1 cells slots Q (F0 m (pc + 3) ls (.int r :: rest))) : W p l e R s m args below meth c H locs cells slots Q (F0 m pc ls (.int x1 :: .ref (ad 0) :: rest)) :=
  rg_calli (rg_runV hC.1 hC.2.1 hI.1 hI.2.1 tl_0 rfl (met_isThingTold l D dA ad hC.2.2 sz τ x1 K hT) (lw_V q2559 q2561 qs156 q170 q2562) 1 (by decide +kernel) ⟨rfl, rfl⟩ hR rfl hsz rfl hroom hf hdg) hI.2.2 (fun r τ1 H1 l1 hk hz hP hS => kk r τ1 H1 l1 hk ⟨hP, hz, hS⟩)
set_option maxHeartbeats 4000000 in
set_option maxRecDepth 100000 in
theorem met_isImage (l : Launch) (D : va_G) (dA : Nat → ClassId) (ad : Nat → Nat) (hJ : rgJ twL ad) (sz : Nat) (τ : Sto) (x1 : Int32) (K : Int32 → Sto → Prop) (hT : T_isImage τ x1 K) : Met l yX6_isImage (ws_ yX6_isImage cX6_isImage 3 (some .boolean)) ({ frames := 2, cells := 0, slots := 0, locals := 35 }) (va_Pc [.ref (ad 0), .int x1] (rgU D vwCl dA twL ad sz τ)) (va_Qi K (rgU D vwCl dA twL ad sz) (rgAd twL ad)) 0 0 (rgAd twL ad) := by
  refine tw_metz hJ (by decide) rfl (Nat.le_of_ble_eq_true rfl) ?_
  intro p e s m args below meth c Q hC hret hI ls hl
  have hx := hC.1.1
  have hb := hC.1.2.1
  have hl : lv_has ls 3 [(0, .ref (ad 0)), (1, .int x1)] := hl
  have w_60 : ∀ (n : Nat) (x2 : Int32) (τ : Sto) (H : Heap) (locs : List Loc) (ls : Array Slot), T_isImage_60 K n x2 τ → tI D dA ad sz s.heap τ H locs → lv_has ls 3 [(0, .ref (ad 0)), (2, .int x2)] → W p l e ({ frames := 2, cells := 0, slots := 0, locals := 35 }) s m args below meth c H locs 0 0 Q (F0 m 60 ls []) := by
    intro n
    induction n with
    | zero => intro x2 τ H locs ls hT; exact hT.elim
    | succ n ih =>
      intro x2 τ H locs ls hT hI hl
      unfold T_isImage_60 at hT
      refine lv_iload_n hx hb dX6_isImage_60 rfl (lv_at hl 1 rfl) ?_
      refine lv_aload_n hx hb dX6_isImage_61 rfl (lv_at hl 0 rfl) ?_
      refine tc_thingMany hC hI hT ⟨Nat.le_of_ble_eq_true rfl, Nat.le_of_ble_eq_true rfl⟩ ⟨Nat.zero_le _, Nat.zero_le _⟩ hl.1 (Nat.le_of_ble_eq_true rfl) dX6_isImage_62 (fun r2 τ1 H locs hT hI => ?_)
      refine lv_icmp_ge (tgt := 88) hx hb dX6_isImage_65 (by decide) (fun hc => ?_) (fun hc => ?_)
      · have hT := hT.1 hc
        refine lv_iconst (v := 1) hx hb dX6_isImage_88 (by decide) ?_
        exact hret _ _ _ _ _ _ (by decide) hT hI dX6_isImage_89
      · have hT := hT.2 hc
        refine lv_aload_n hx hb dX6_isImage_68 rfl (lv_at hl 0 rfl) ?_
        refine lv_iconst (v := 2) hx hb dX6_isImage_69 (by decide) ?_
        refine lv_iconst (v := 5) hx hb dX6_isImage_70 (by decide) ?_
        refine lv_iload_n hx hb dX6_isImage_71 rfl (lv_at hl 1 rfl) ?_
        refine lv_imul hx hb dX6_isImage_72 ?_
        refine lv_iadd hx hb dX6_isImage_73 ?_
        refine tc_isThingTold hC hI hT ⟨Nat.le_of_ble_eq_true rfl, Nat.le_of_ble_eq_true rfl⟩ ⟨Nat.zero_le _, Nat.zero_le _⟩ hl.1 (Nat.le_of_ble_eq_true rfl) dX6_isImage_74 (fun r4 τ3 H locs hT hI => ?_)
        refine lv_if_ne (tgt := 82) hx hb dX6_isImage_77 (by decide) (fun hc => ?_) (fun hc => ?_)
        · have hT := hT.1 hc
          refine lv_iinc (v := x2 + 1) (lv' := [(2, .int (x2 + 1)), (0, .ref (ad 0))]) hx hb dX6_isImage_82 hl (k := 1) rfl rfl (Nat.le_of_ble_eq_true rfl) rfl (fun ls hl => ?_)
          refine lv_goto (tgt := 60) hx hb dX6_isImage_85 (by decide) ?_
          exact ih (x2 + 1) τ3 _ _ _ hT hI (lv_sub hl [1, 0] rfl)
        · have hT := hT.2 hc
          refine lv_iconst (v := 0) hx hb dX6_isImage_80 (by decide) ?_
          exact hret _ _ _ _ _ _ (by decide) hT hI dX6_isImage_81
  unfold T_isImage at hT
  refine lv_iload_n hx hb dX6_isImage_0 rfl (lv_at hl 1 rfl) ?_
  refine lv_iconst (v := 3) hx hb dX6_isImage_1 (by decide) ?_
  refine lv_iconst (v := 5) hx hb dX6_isImage_2 (by decide) ?_
  refine lv_aload_n hx hb dX6_isImage_3 rfl (lv_at hl 0 rfl) ?_
  refine tc_thingMany hC hI hT ⟨Nat.le_of_ble_eq_true rfl, Nat.le_of_ble_eq_true rfl⟩ ⟨Nat.zero_le _, Nat.zero_le _⟩ hl.1 (Nat.le_of_ble_eq_true rfl) dX6_isImage_4 (fun r6 τ5 H locs hT hI => ?_)
  refine lv_imul hx hb dX6_isImage_7 ?_
  refine lv_iadd hx hb dX6_isImage_8 ?_
  refine lv_icmp_ne (tgt := 56) hx hb dX6_isImage_9 (by decide) (fun hc => ?_) (fun hc => ?_)
  · have hT := hT.1 hc
    refine lv_iconst (v := 0) hx hb dX6_isImage_56 (by decide) ?_
    exact hret _ _ _ _ _ _ (by decide) hT hI dX6_isImage_57
  · have hT := hT.2 hc
    refine lv_aload_n hx hb dX6_isImage_12 rfl (lv_at hl 0 rfl) ?_
    refine tg_0 hC hI dX6_isImage_13 ?_
    refine lv_iload_n hx hb dX6_isImage_16 rfl (lv_at hl 1 rfl) ?_
    refine lv_iconst (v := 1) hx hb dX6_isImage_17 (by decide) ?_
    refine lv_isub hx hb dX6_isImage_18 ?_
    refine tw_iald hC hI tl_1 hT dX6_isImage_19 (fun hT => ?_)
    refine lv_aload_n hx hb dX6_isImage_20 rfl (lv_at hl 0 rfl) ?_
    refine tg_0 hC hI dX6_isImage_21 ?_
    refine lv_iload_n hx hb dX6_isImage_24 rfl (lv_at hl 1 rfl) ?_
    refine lv_iconst (v := 1) hx hb dX6_isImage_25 (by decide) ?_
    refine lv_isub hx hb dX6_isImage_26 ?_
    refine tc_checked hC hI hT ⟨Nat.le_of_ble_eq_true rfl, Nat.le_of_ble_eq_true rfl⟩ ⟨Nat.zero_le _, Nat.zero_le _⟩ hl.1 (Nat.le_of_ble_eq_true rfl) dX6_isImage_27 (fun r8 τ7 H locs hT hI => ?_)
    refine lv_icmp_ne (tgt := 56) hx hb dX6_isImage_30 (by decide) (fun hc => ?_) (fun hc => ?_)
    · have hT := hT.1 hc
      refine lv_iconst (v := 0) hx hb dX6_isImage_56 (by decide) ?_
      exact hret _ _ _ _ _ _ (by decide) hT hI dX6_isImage_57
    · have hT := hT.2 hc
      refine lv_sipush (v := 256) hx hb dX6_isImage_33 (by decide) ?_
      refine lv_aload_n hx hb dX6_isImage_36 rfl (lv_at hl 0 rfl) ?_
      refine tg_0 hC hI dX6_isImage_37 ?_
      refine lv_iconst (v := 0) hx hb dX6_isImage_40 (by decide) ?_
      refine tw_iald hC hI tl_1 hT dX6_isImage_41 (fun hT => ?_)
      refine lv_imul hx hb dX6_isImage_42 ?_
      refine lv_aload_n hx hb dX6_isImage_43 rfl (lv_at hl 0 rfl) ?_
      refine tg_0 hC hI dX6_isImage_44 ?_
      refine lv_iconst (v := 1) hx hb dX6_isImage_47 (by decide) ?_
      refine tw_iald hC hI tl_1 hT dX6_isImage_48 (fun hT => ?_)
      refine lv_iadd hx hb dX6_isImage_49 ?_
      refine lv_sipush (v := 999) hx hb dX6_isImage_50 (by decide) ?_
      refine lv_icmp_le (tgt := 58) hx hb dX6_isImage_53 (by decide) (fun hc => ?_) (fun hc => ?_)
      · have hT := hT.1 hc
        refine lv_iconst (v := 0) hx hb dX6_isImage_58 (by decide) ?_
        refine lv_istore_n (lv' := [(2, .int 0), (0, .ref (ad 0)), (1, .int x1)]) hx hb dX6_isImage_59 rfl hl (Nat.le_of_ble_eq_true rfl) rfl (fun ls hl => ?_)
        obtain ⟨n60, hT⟩ := hT
        exact w_60 n60 0 τ7 _ _ _ hT hI (lv_sub hl [1, 0] rfl)
      · have hT := hT.2 hc
        refine lv_iconst (v := 0) hx hb dX6_isImage_56 (by decide) ?_
        exact hret _ _ _ _ _ _ (by decide) hT hI dX6_isImage_57
theorem tc_isImage {p : Program} {l : Launch} {e : Env} {R : Room} {s : State} {m : MethodId} {args : Array Value} {below : List Frame} {meth : Method} {c : Code} {H : Heap} {locs : List Loc} {cells slots : Nat} {Q : State → Prop} {cc : ByteArray} {nL : Nat} {D : va_G} {dA : Nat → ClassId} {ad : Nat → Nat} {τ : Sto} {pc sz : Nat} {ls : Array Slot} {rest : List Value} {H0 : Heap} {x1 : Int32} {K : Int32 → Sto → Prop} (hC : tC p m c cc nL s args D dA ad) (hI : tI D dA ad sz H0 τ H locs) (hT : T_isImage τ x1 K) (hR : 2 + 1 ≤ R.frames ∧ 8 + (3 + 11) + 35 ≤ R.locals) (hf : cells ≤ R.cells ∧ slots ≤ R.slots) (hsz : ls.size = nL) (hroom : (rest.map fun v => v.category).sum ≤ 8) (hdg : decode cc pc = .ok (.invokevirtual 692, 3)) (kk : ∀ (r : Int32) (τ1 : Sto) (H1 : Heap) (locs1 : List Loc), K r τ1 → tI D dA ad sz H0 τ1 H1 locs1 → W p l e R s m args below meth c H1 locs1 cells slots Q (F0 m (pc + 3) ls (.int r :: rest))) : W p l e R s m args below meth c H locs cells slots Q (F0 m pc ls (.int x1 :: .ref (ad 0) :: rest)) :=
  rg_calli (rg_runV hC.1 hC.2.1 hI.1 hI.2.1 tl_0 rfl (met_isImage l D dA ad hC.2.2 sz τ x1 K hT) (lw_V q2555 q2557 qs155 q170 q2558) 1 (by decide +kernel) ⟨rfl, rfl⟩ hR rfl hsz rfl hroom hf hdg) hI.2.2 (fun r τ1 H1 l1 hk hz hP hS => kk r τ1 H1 l1 hk ⟨hP, hz, hS⟩)
set_option maxHeartbeats 4000000 in
set_option maxRecDepth 100000 in
theorem met_on (l : Launch) (D : va_G) (dA : Nat → ClassId) (ad : Nat → Nat) (hJ : rgJ twL ad) (sz : Nat) (τ : Sto) (K : Int32 → Sto → Prop) (hT : T_on τ K) : Met l yX6_on (ws_ yX6_on cX6_on 3 (some .boolean)) ({ frames := 3, cells := 0, slots := 0, locals := 57 }) (va_Pc [.ref (ad 0)] (rgU D vwCl dA twL ad sz τ)) (va_Qi K (rgU D vwCl dA twL ad sz) (rgAd twL ad)) 0 0 (rgAd twL ad) := by
  refine tw_metz hJ (by decide) rfl (Nat.le_of_ble_eq_true rfl) ?_
  intro p e s m args below meth c Q hC hret hI ls hl
  have hx := hC.1.1
  have hb := hC.1.2.1
  have hl : lv_has ls 3 [(0, .ref (ad 0))] := hl
  have w_55 : ∀ (n : Nat) (x2 : Int32) (τ : Sto) (H : Heap) (locs : List Loc) (ls : Array Slot), T_on_55 K n x2 τ → tI D dA ad sz s.heap τ H locs → lv_has ls 3 [(0, .ref (ad 0)), (2, .int x2)] → W p l e ({ frames := 3, cells := 0, slots := 0, locals := 57 }) s m args below meth c H locs 0 0 Q (F0 m 55 ls []) := by
    intro n
    induction n with
    | zero => intro x2 τ H locs ls hT; exact hT.elim
    | succ n ih =>
      intro x2 τ H locs ls hT hI hl
      unfold T_on_55 at hT
      refine lv_iload_n hx hb dX6_on_55 rfl (lv_at hl 1 rfl) ?_
      refine lv_iconst (v := 5) hx hb dX6_on_56 (by decide) ?_
      refine lv_aload_n hx hb dX6_on_57 rfl (lv_at hl 0 rfl) ?_
      refine tc_thingMany hC hI hT ⟨Nat.le_of_ble_eq_true rfl, Nat.le_of_ble_eq_true rfl⟩ ⟨Nat.zero_le _, Nat.zero_le _⟩ hl.1 (Nat.le_of_ble_eq_true rfl) dX6_on_58 (fun r2 τ1 H locs hT hI => ?_)
      refine lv_imul hx hb dX6_on_61 ?_
      refine lv_icmp_ge (tgt := 87) hx hb dX6_on_62 (by decide) (fun hc => ?_) (fun hc => ?_)
      · have hT := hT.1 hc
        refine lv_aload_n hx hb dX6_on_87 rfl (lv_at hl 0 rfl) ?_
        refine tg_51 hC hI dX6_on_88 ?_
        refine lv_bipush (v := 41) hx hb dX6_on_91 (by decide) ?_
        refine lv_iconst (v := 0) hx hb dX6_on_93 (by decide) ?_
        refine tw_iast hC hI tl_52 hT dX6_on_94 (fun τ3 H locs hT hI => ?_)
        refine lv_aload_n hx hb dX6_on_95 rfl (lv_at hl 0 rfl) ?_
        refine lv_iconst (v := 0) hx hb dX6_on_96 (by decide) ?_
        refine tp_65 hC hI hT dX6_on_97 (fun τ4 H locs hT hI => ?_)
        refine lv_iconst (v := 1) hx hb dX6_on_100 (by decide) ?_
        exact hret _ _ _ _ _ _ (by decide) hT hI dX6_on_101
      · have hT := hT.2 hc
        refine lv_aload_n hx hb dX6_on_65 rfl (lv_at hl 0 rfl) ?_
        refine tg_51 hC hI dX6_on_66 ?_
        refine lv_iconst (v := 1) hx hb dX6_on_69 (by decide) ?_
        refine lv_iload_n hx hb dX6_on_70 rfl (lv_at hl 1 rfl) ?_
        refine lv_iadd hx hb dX6_on_71 ?_
        refine lv_aload_n hx hb dX6_on_72 rfl (lv_at hl 0 rfl) ?_
        refine tg_0 hC hI dX6_on_73 ?_
        refine lv_iconst (v := 2) hx hb dX6_on_76 (by decide) ?_
        refine lv_iload_n hx hb dX6_on_77 rfl (lv_at hl 1 rfl) ?_
        refine lv_iadd hx hb dX6_on_78 ?_
        refine tw_iald hC hI tl_1 hT dX6_on_79 (fun hT => ?_)
        refine tw_iast hC hI tl_52 hT dX6_on_80 (fun τ5 H locs hT hI => ?_)
        refine lv_iinc (v := x2 + 1) (lv' := [(2, .int (x2 + 1)), (0, .ref (ad 0))]) hx hb dX6_on_81 hl (k := 1) rfl rfl (Nat.le_of_ble_eq_true rfl) rfl (fun ls hl => ?_)
        refine lv_goto (tgt := 55) hx hb dX6_on_84 (by decide) ?_
        exact ih (x2 + 1) τ5 _ _ _ hT hI (lv_sub hl [1, 0] rfl)
  unfold T_on at hT
  refine lv_aload_n hx hb dX6_on_0 rfl (lv_at hl 0 rfl) ?_
  refine tg_1 hC hI dX6_on_1 ?_
  refine lv_istore_n (lv' := [(1, .int (τ.1 0 1)), (0, .ref (ad 0))]) hx hb dX6_on_4 rfl hl (Nat.le_of_ble_eq_true rfl) rfl (fun ls hl => ?_)
  refine lv_aload_n hx hb dX6_on_5 rfl (lv_at hl 1 rfl) ?_
  refine lv_iconst (v := 0) hx hb dX6_on_6 (by decide) ?_
  refine tp_1 hC hI hT dX6_on_7 (fun τ6 H locs hT hI => ?_)
  refine lv_aload_n hx hb dX6_on_10 rfl (lv_at hl 1 rfl) ?_
  refine lv_iload_n hx hb dX6_on_11 rfl (lv_at hl 0 rfl) ?_
  refine tc_isImage hC hI hT ⟨Nat.le_of_ble_eq_true rfl, Nat.le_of_ble_eq_true rfl⟩ ⟨Nat.zero_le _, Nat.zero_le _⟩ hl.1 (Nat.le_of_ble_eq_true rfl) dX6_on_12 (fun r8 τ7 H locs hT hI => ?_)
  refine lv_if_ne (tgt := 30) hx hb dX6_on_15 (by decide) (fun hc => ?_) (fun hc => ?_)
  · have hT := hT.1 hc
    refine lv_aload_n hx hb dX6_on_30 rfl (lv_at hl 1 rfl) ?_
    refine tg_51 hC hI dX6_on_31 ?_
    refine lv_iconst (v := 0) hx hb dX6_on_34 (by decide) ?_
    refine lv_sipush (v := 256) hx hb dX6_on_35 (by decide) ?_
    refine lv_aload_n hx hb dX6_on_38 rfl (lv_at hl 1 rfl) ?_
    refine tg_0 hC hI dX6_on_39 ?_
    refine lv_iconst (v := 0) hx hb dX6_on_42 (by decide) ?_
    refine tw_iald hC hI tl_1 hT dX6_on_43 (fun hT => ?_)
    refine lv_imul hx hb dX6_on_44 ?_
    refine lv_aload_n hx hb dX6_on_45 rfl (lv_at hl 1 rfl) ?_
    refine tg_0 hC hI dX6_on_46 ?_
    refine lv_iconst (v := 1) hx hb dX6_on_49 (by decide) ?_
    refine tw_iald hC hI tl_1 hT dX6_on_50 (fun hT => ?_)
    refine lv_iadd hx hb dX6_on_51 ?_
    refine tw_iast hC hI tl_52 hT dX6_on_52 (fun τ9 H locs hT hI => ?_)
    refine lv_iconst (v := 0) hx hb dX6_on_53 (by decide) ?_
    refine lv_istore_n (lv' := [(2, .int 0), (1, .int (τ.1 0 1)), (0, .ref (ad 0))]) hx hb dX6_on_54 rfl hl (Nat.le_of_ble_eq_true rfl) rfl (fun ls hl => ?_)
    obtain ⟨n55, hT⟩ := hT
    exact w_55 n55 0 τ9 _ _ _ hT hI (lv_sub hl [2, 0] rfl)
  · have hT := hT.2 hc
    refine lv_aload_n hx hb dX6_on_18 rfl (lv_at hl 1 rfl) ?_
    refine tg_9 hC hI dX6_on_19 ?_
    refine lv_iconst (v := 5) hx hb dX6_on_22 (by decide) ?_
    refine lv_dup2_11 hx hb dX6_on_23 rfl rfl ?_
    refine tw_iald hC hI tl_10 hT dX6_on_24 (fun hT => ?_)
    refine lv_iconst (v := 1) hx hb dX6_on_25 (by decide) ?_
    refine lv_iadd hx hb dX6_on_26 ?_
    refine tw_iast hC hI tl_10 hT dX6_on_27 (fun τ10 H locs hT hI => ?_)
    refine lv_iconst (v := 0) hx hb dX6_on_28 (by decide) ?_
    exact hret _ _ _ _ _ _ (by decide) hT hI dX6_on_29
