set_option maxHeartbeats 4000000 in
set_option maxRecDepth 100000 in
theorem met_breaks (l : Launch) (D : va_G) (dA : Nat → ClassId) (ad : Nat → Nat) (hJ : rgJ twL ad) (sz : Nat) (τ : Sto) (x1 : Int32) (K : Int32 → Sto → Prop) (hT : T_breaks τ x1 K) : Met l yX6_breaks (ws_ yX6_breaks cX6_breaks 4 (some .int)) ({ frames := 8, cells := 0, slots := 0, locals := 180 }) (va_Pc [.ref (ad 0), .int x1] (rgU D vwCl dA twL ad sz τ)) (va_Qi K (rgU D vwCl dA twL ad sz) (rgAd twL ad)) 0 0 (rgAd twL ad) := by
  refine tw_meti hJ (by decide) rfl (Nat.le_of_ble_eq_true rfl) ?_
  intro p e s m args below meth c Q hC hret hI ls hl
  have hx := hC.1.1
  have hb := hC.1.2.1
  have hl : lv_has ls 4 [(0, .ref (ad 0)), (1, .int x1)] := hl
  have w_18 : ∀ (x1 : Int32) (n : Nat) (x2 : Int32) (x3 : Int32) (τ : Sto) (H : Heap) (locs : List Loc) (ls : Array Slot), T_breaks_18 K x1 n x2 x3 τ → tI D dA ad sz s.heap τ H locs → lv_has ls 4 [(0, .ref (ad 0)), (1, .int x1), (2, .int x2), (3, .int x3)] → W p l e ({ frames := 8, cells := 0, slots := 0, locals := 180 }) s m args below meth c H locs 0 0 Q (F0 m 18 ls []) := by
    intro x1 n
    induction n with
    | zero => intro x2 x3 τ H locs ls hT; exact hT.elim
    | succ n ih =>
      intro x2 x3 τ H locs ls hT hI hl
      unfold T_breaks_18 at hT
      refine lv_iload_n hx hb dX6_breaks_18 rfl (lv_at hl 3 rfl) ?_
      refine lv_bipush (v := 60) hx hb dX6_breaks_19 (by decide) ?_
      refine lv_icmp_gt (tgt := 62) hx hb dX6_breaks_21 (by decide) (fun hc => ?_) (fun hc => ?_)
      · have hT := hT.1 hc
        refine lv_aload_n hx hb dX6_breaks_62 rfl (lv_at hl 0 rfl) ?_
        refine tc_takesBack hC hI hT ⟨Nat.le_of_ble_eq_true rfl, Nat.le_of_ble_eq_true rfl⟩ ⟨Nat.zero_le _, Nat.zero_le _⟩ hl.1 (Nat.le_of_ble_eq_true rfl) dX6_breaks_63 (fun τ1 H locs hT hI => ?_)
        refine lv_iload_n hx hb dX6_breaks_66 rfl (lv_at hl 2 rfl) ?_
        exact hret _ _ _ _ _ _ hT hI dX6_breaks_67
      · have hT := hT.2 hc
        refine lv_iload_n hx hb dX6_breaks_24 rfl (lv_at hl 2 rfl) ?_
        refine lv_iconst (v := -1) hx hb dX6_breaks_25 (by decide) ?_
        refine lv_icmp_ne (tgt := 62) hx hb dX6_breaks_26 (by decide) (fun hc => ?_) (fun hc => ?_)
        · have hT := hT.1 hc
          refine lv_aload_n hx hb dX6_breaks_62 rfl (lv_at hl 0 rfl) ?_
          refine tc_takesBack hC hI hT ⟨Nat.le_of_ble_eq_true rfl, Nat.le_of_ble_eq_true rfl⟩ ⟨Nat.zero_le _, Nat.zero_le _⟩ hl.1 (Nat.le_of_ble_eq_true rfl) dX6_breaks_63 (fun τ2 H locs hT hI => ?_)
          refine lv_iload_n hx hb dX6_breaks_66 rfl (lv_at hl 2 rfl) ?_
          exact hret _ _ _ _ _ _ hT hI dX6_breaks_67
        · have hT := hT.2 hc
          refine lv_aload_n hx hb dX6_breaks_29 rfl (lv_at hl 0 rfl) ?_
          refine tg_51 hC hI dX6_breaks_30 ?_
          refine lv_iconst (v := 0) hx hb dX6_breaks_33 (by decide) ?_
          refine tw_iald hC hI tl_52 hT dX6_breaks_34 (fun hT => ?_)
          refine lv_sipush (v := 999) hx hb dX6_breaks_35 (by decide) ?_
          refine lv_icmp_ge (tgt := 62) hx hb dX6_breaks_38 (by decide) (fun hc => ?_) (fun hc => ?_)
          · have hT := hT.1 hc
            refine lv_aload_n hx hb dX6_breaks_62 rfl (lv_at hl 0 rfl) ?_
            refine tc_takesBack hC hI hT ⟨Nat.le_of_ble_eq_true rfl, Nat.le_of_ble_eq_true rfl⟩ ⟨Nat.zero_le _, Nat.zero_le _⟩ hl.1 (Nat.le_of_ble_eq_true rfl) dX6_breaks_63 (fun τ3 H locs hT hI => ?_)
            refine lv_iload_n hx hb dX6_breaks_66 rfl (lv_at hl 2 rfl) ?_
            exact hret _ _ _ _ _ _ hT hI dX6_breaks_67
          · have hT := hT.2 hc
            refine lv_aload_n hx hb dX6_breaks_41 rfl (lv_at hl 0 rfl) ?_
            refine tc_dayGoes hC hI hT ⟨Nat.le_of_ble_eq_true rfl, Nat.le_of_ble_eq_true rfl⟩ ⟨Nat.zero_le _, Nat.zero_le _⟩ hl.1 (Nat.le_of_ble_eq_true rfl) dX6_breaks_42 (fun τ4 H locs hT hI => ?_)
            refine lv_aload_n hx hb dX6_breaks_45 rfl (lv_at hl 0 rfl) ?_
            refine tg_59 hC hI dX6_breaks_46 ?_
            refine lv_iload_n hx hb dX6_breaks_49 rfl (lv_at hl 1 rfl) ?_
            refine tw_zald hC hI tl_60 hT dX6_breaks_50 (fun hT => ?_)
            refine lv_if_eq (tgt := 56) hx hb dX6_breaks_51 (by decide) (fun hc => ?_) (fun hc => ?_)
            · have hT := hT.1 hc
              refine lv_iinc (v := x3 + 1) (lv' := [(3, .int (x3 + 1)), (0, .ref (ad 0)), (1, .int x1), (2, .int x2)]) hx hb dX6_breaks_56 hl (k := 3) rfl rfl (Nat.le_of_ble_eq_true rfl) rfl (fun ls hl => ?_)
              refine lv_goto (tgt := 18) hx hb dX6_breaks_59 (by decide) ?_
              exact ih x2 (x3 + 1) τ4 _ _ _ hT hI (lv_sub hl [1, 2, 3, 0] rfl)
            · have hT := hT.2 hc
              refine lv_iload_n hx hb dX6_breaks_54 rfl (lv_at hl 3 rfl) ?_
              refine lv_istore_n (lv' := [(2, .int x3), (0, .ref (ad 0)), (1, .int x1), (3, .int x3)]) hx hb dX6_breaks_55 rfl hl (Nat.le_of_ble_eq_true rfl) rfl (fun ls hl => ?_)
              refine lv_iinc (v := x3 + 1) (lv' := [(3, .int (x3 + 1)), (2, .int x3), (0, .ref (ad 0)), (1, .int x1)]) hx hb dX6_breaks_56 hl (k := 3) rfl rfl (Nat.le_of_ble_eq_true rfl) rfl (fun ls hl => ?_)
              refine lv_goto (tgt := 18) hx hb dX6_breaks_59 (by decide) ?_
              exact ih x3 (x3 + 1) τ4 _ _ _ hT hI (lv_sub hl [2, 3, 1, 0] rfl)
  unfold T_breaks at hT
  refine lv_aload_n hx hb dX6_breaks_0 rfl (lv_at hl 0 rfl) ?_
  refine lv_iload_n hx hb dX6_breaks_1 rfl (lv_at hl 1 rfl) ?_
  refine tc_isThing hC hI hT ⟨Nat.le_of_ble_eq_true rfl, Nat.le_of_ble_eq_true rfl⟩ ⟨Nat.zero_le _, Nat.zero_le _⟩ hl.1 (Nat.le_of_ble_eq_true rfl) dX6_breaks_2 (fun r6 τ5 H locs hT hI => ?_)
  refine lv_if_ne (tgt := 10) hx hb dX6_breaks_5 (by decide) (fun hc => ?_) (fun hc => ?_)
  · have hT := hT.1 hc
    refine lv_iconst (v := -1) hx hb dX6_breaks_10 (by decide) ?_
    refine lv_istore_n (lv' := [(2, .int (-1)), (0, .ref (ad 0)), (1, .int x1)]) hx hb dX6_breaks_11 rfl hl (Nat.le_of_ble_eq_true rfl) rfl (fun ls hl => ?_)
    refine lv_aload_n hx hb dX6_breaks_12 rfl (lv_at hl 1 rfl) ?_
    refine tc_putsAside hC hI hT ⟨Nat.le_of_ble_eq_true rfl, Nat.le_of_ble_eq_true rfl⟩ ⟨Nat.zero_le _, Nat.zero_le _⟩ hl.1 (Nat.le_of_ble_eq_true rfl) dX6_breaks_13 (fun τ7 H locs hT hI => ?_)
    refine lv_iconst (v := 1) hx hb dX6_breaks_16 (by decide) ?_
    refine lv_istore_n (lv' := [(3, .int 1), (2, .int (-1)), (0, .ref (ad 0)), (1, .int x1)]) hx hb dX6_breaks_17 rfl hl (Nat.le_of_ble_eq_true rfl) rfl (fun ls hl => ?_)
    obtain ⟨n18, hT⟩ := hT
    exact w_18 x1 n18 (-1) 1 τ7 _ _ _ hT hI (lv_sub hl [2, 3, 1, 0] rfl)
  · have hT := hT.2 hc
    refine lv_iconst (v := -1) hx hb dX6_breaks_8 (by decide) ?_
    exact hret _ _ _ _ _ _ hT hI dX6_breaks_9
set_option maxHeartbeats 4000000 in
set_option maxRecDepth 100000 in
theorem met_worthBy (l : Launch) (D : va_G) (dA : Nat → ClassId) (ad : Nat → Nat) (hJ : rgJ twL ad) (sz : Nat) (τ : Sto) (x1 : Int32) (K : Int32 → Sto → Prop) (hT : T_worthBy τ x1 K) : Met l yX6_worthBy (ws_ yX6_worthBy cX6_worthBy 4 (some .int)) ({ frames := 2, cells := 0, slots := 0, locals := 32 }) (va_Pc [.ref (ad 0), .int x1] (rgU D vwCl dA twL ad sz τ)) (va_Qi K (rgU D vwCl dA twL ad sz) (rgAd twL ad)) 0 0 (rgAd twL ad) := by
  refine tw_meti hJ (by decide) rfl (Nat.le_of_ble_eq_true rfl) ?_
  intro p e s m args below meth c Q hC hret hI ls hl
  have hx := hC.1.1
  have hb := hC.1.2.1
  have hl : lv_has ls 4 [(0, .ref (ad 0)), (1, .int x1)] := hl
  have w_4 : ∀ (x1 : Int32) (n : Nat) (x2 : Int32) (x3 : Int32) (τ : Sto) (H : Heap) (locs : List Loc) (ls : Array Slot), T_worthBy_4 K x1 n x2 x3 τ → tI D dA ad sz s.heap τ H locs → lv_has ls 4 [(0, .ref (ad 0)), (1, .int x1), (2, .int x2), (3, .int x3)] → W p l e ({ frames := 2, cells := 0, slots := 0, locals := 32 }) s m args below meth c H locs 0 0 Q (F0 m 4 ls []) := by
    intro x1 n
    induction n with
    | zero => intro x2 x3 τ H locs ls hT; exact hT.elim
    | succ n ih =>
      intro x2 x3 τ H locs ls hT hI hl
      unfold T_worthBy_4 at hT
      refine lv_iload_n hx hb dX6_worthBy_4 rfl (lv_at hl 3 rfl) ?_
      refine lv_aload_n hx hb dX6_worthBy_5 rfl (lv_at hl 0 rfl) ?_
      refine tc_thingMany hC hI hT ⟨Nat.le_of_ble_eq_true rfl, Nat.le_of_ble_eq_true rfl⟩ ⟨Nat.zero_le _, Nat.zero_le _⟩ hl.1 (Nat.le_of_ble_eq_true rfl) dX6_worthBy_6 (fun r2 τ1 H locs hT hI => ?_)
      refine lv_icmp_ge (tgt := 41) hx hb dX6_worthBy_9 (by decide) (fun hc => ?_) (fun hc => ?_)
      · have hT := hT.1 hc
        refine lv_iload_n hx hb dX6_worthBy_41 rfl (lv_at hl 2 rfl) ?_
        exact hret _ _ _ _ _ _ hT hI dX6_worthBy_42
      · have hT := hT.2 hc
        refine lv_iload_n hx hb dX6_worthBy_12 rfl (lv_at hl 1 rfl) ?_
        refine lv_iload_n hx hb dX6_worthBy_13 rfl (lv_at hl 3 rfl) ?_
        refine lv_ishr hx hb dX6_worthBy_14 ?_
        refine lv_iconst (v := 1) hx hb dX6_worthBy_15 (by decide) ?_
        refine lv_iand hx hb dX6_worthBy_16 ?_
        refine lv_iconst (v := 1) hx hb dX6_worthBy_17 (by decide) ?_
        refine lv_icmp_ne (tgt := 35) hx hb dX6_worthBy_18 (by decide) (fun hc => ?_) (fun hc => ?_)
        · have hT := hT.1 hc
          refine lv_iinc (v := x3 + 1) (lv' := [(3, .int (x3 + 1)), (0, .ref (ad 0)), (1, .int x1), (2, .int x2)]) hx hb dX6_worthBy_35 hl (k := 3) rfl rfl (Nat.le_of_ble_eq_true rfl) rfl (fun ls hl => ?_)
          refine lv_goto (tgt := 4) hx hb dX6_worthBy_38 (by decide) ?_
          exact ih x2 (x3 + 1) τ1 _ _ _ hT hI (lv_sub hl [1, 2, 3, 0] rfl)
        · have hT := hT.2 hc
          refine lv_iload_n hx hb dX6_worthBy_21 rfl (lv_at hl 2 rfl) ?_
          refine lv_aload_n hx hb dX6_worthBy_22 rfl (lv_at hl 0 rfl) ?_
          refine tg_41 hC hI dX6_worthBy_23 ?_
          refine lv_bipush (v := 24) hx hb dX6_worthBy_26 (by decide) ?_
          refine lv_iconst (v := 3) hx hb dX6_worthBy_28 (by decide) ?_
          refine lv_iload_n hx hb dX6_worthBy_29 rfl (lv_at hl 3 rfl) ?_
          refine lv_imul hx hb dX6_worthBy_30 ?_
          refine lv_iadd hx hb dX6_worthBy_31 ?_
          refine tw_iald hC hI tl_42 hT dX6_worthBy_32 (fun hT => ?_)
          refine lv_iadd hx hb dX6_worthBy_33 ?_
          refine lv_topi (fun y3 h4 => ?_)
          have hT := hT y3 h4
          refine lv_istore_n (lv' := [(2, .int y3), (0, .ref (ad 0)), (1, .int x1), (3, .int x3)]) hx hb dX6_worthBy_34 rfl hl (Nat.le_of_ble_eq_true rfl) rfl (fun ls hl => ?_)
          refine lv_iinc (v := x3 + 1) (lv' := [(3, .int (x3 + 1)), (2, .int y3), (0, .ref (ad 0)), (1, .int x1)]) hx hb dX6_worthBy_35 hl (k := 3) rfl rfl (Nat.le_of_ble_eq_true rfl) rfl (fun ls hl => ?_)
          refine lv_goto (tgt := 4) hx hb dX6_worthBy_38 (by decide) ?_
          exact ih y3 (x3 + 1) τ1 _ _ _ hT hI (lv_sub hl [2, 3, 1, 0] rfl)
  unfold T_worthBy at hT
  refine lv_iconst (v := 0) hx hb dX6_worthBy_0 (by decide) ?_
  refine lv_istore_n (lv' := [(2, .int 0), (0, .ref (ad 0)), (1, .int x1)]) hx hb dX6_worthBy_1 rfl hl (Nat.le_of_ble_eq_true rfl) rfl (fun ls hl => ?_)
  refine lv_iconst (v := 0) hx hb dX6_worthBy_2 (by decide) ?_
  refine lv_istore_n (lv' := [(3, .int 0), (2, .int 0), (0, .ref (ad 0)), (1, .int x1)]) hx hb dX6_worthBy_3 rfl hl (Nat.le_of_ble_eq_true rfl) rfl (fun ls hl => ?_)
  obtain ⟨n4, hT⟩ := hT
  exact w_4 x1 n4 0 0 τ _ _ _ hT hI (lv_sub hl [2, 3, 1, 0] rfl)
theorem tc_worthBy {p : Program} {l : Launch} {e : Env} {R : Room} {s : State} {m : MethodId} {args : Array Value} {below : List Frame} {meth : Method} {c : Code} {H : Heap} {locs : List Loc} {cells slots : Nat} {Q : State → Prop} {cc : ByteArray} {nL : Nat} {D : va_G} {dA : Nat → ClassId} {ad : Nat → Nat} {τ : Sto} {pc sz : Nat} {ls : Array Slot} {rest : List Value} {H0 : Heap} {x1 : Int32} {K : Int32 → Sto → Prop} (hC : tC p m c cc nL s args D dA ad) (hI : tI D dA ad sz H0 τ H locs) (hT : T_worthBy τ x1 K) (hR : 2 + 1 ≤ R.frames ∧ 8 + (4 + 11) + 32 ≤ R.locals) (hf : cells ≤ R.cells ∧ slots ≤ R.slots) (hsz : ls.size = nL) (hroom : (rest.map fun v => v.category).sum ≤ 8) (hdg : decode cc pc = .ok (.invokevirtual 527, 3)) (kk : ∀ (r : Int32) (τ1 : Sto) (H1 : Heap) (locs1 : List Loc), K r τ1 → tI D dA ad sz H0 τ1 H1 locs1 → W p l e R s m args below meth c H1 locs1 cells slots Q (F0 m (pc + 3) ls (.int r :: rest))) : W p l e R s m args below meth c H locs cells slots Q (F0 m pc ls (.int x1 :: .ref (ad 0) :: rest)) :=
  rg_calli (rg_runV hC.1 hC.2.1 hI.1 hI.2.1 tl_0 rfl (met_worthBy l D dA ad hC.2.2 sz τ x1 K hT) (lw_V q2408 q2410 qs138 q170 q2411) 1 (by decide +kernel) ⟨rfl, rfl⟩ hR rfl hsz rfl hroom hf hdg) hI.2.2 (fun r τ1 H1 l1 hk hz hP hS => kk r τ1 H1 l1 hk ⟨hP, hz, hS⟩)
set_option maxHeartbeats 4000000 in
set_option maxRecDepth 100000 in
theorem met_isLess (l : Launch) (D : va_G) (dA : Nat → ClassId) (ad : Nat → Nat) (hJ : rgJ twL ad) (sz : Nat) (τ : Sto) (x1 : Int32) (x2 : Int32) (K : Int32 → Sto → Prop) (hT : T_isLess τ x1 x2 K) : Met l yX6_isLess (ws_ yX6_isLess cX6_isLess 5 (some .boolean)) ({ frames := 3, cells := 0, slots := 0, locals := 55 }) (va_Pc [.ref (ad 0), .int x1, .int x2] (rgU D vwCl dA twL ad sz τ)) (va_Qi K (rgU D vwCl dA twL ad sz) (rgAd twL ad)) 0 0 (rgAd twL ad) := by
  refine tw_metz hJ (by decide) rfl (Nat.le_of_ble_eq_true rfl) ?_
  intro p e s m args below meth c Q hC hret hI ls hl
  have hx := hC.1.1
  have hb := hC.1.2.1
  have hl : lv_has ls 5 [(0, .ref (ad 0)), (1, .int x1), (2, .int x2)] := hl
  unfold T_isLess at hT
  refine lv_aload_n hx hb dX6_isLess_0 rfl (lv_at hl 0 rfl) ?_
  refine lv_iload_n hx hb dX6_isLess_1 rfl (lv_at hl 1 rfl) ?_
  refine tc_worthBy hC hI hT ⟨Nat.le_of_ble_eq_true rfl, Nat.le_of_ble_eq_true rfl⟩ ⟨Nat.zero_le _, Nat.zero_le _⟩ hl.1 (Nat.le_of_ble_eq_true rfl) dX6_isLess_2 (fun r2 τ1 H locs hT hI => ?_)
  refine lv_istore_n (lv' := [(3, .int r2), (0, .ref (ad 0)), (1, .int x1), (2, .int x2)]) hx hb dX6_isLess_5 rfl hl (Nat.le_of_ble_eq_true rfl) rfl (fun ls hl => ?_)
  refine lv_aload_n hx hb dX6_isLess_6 rfl (lv_at hl 1 rfl) ?_
  refine lv_iload_n hx hb dX6_isLess_7 rfl (lv_at hl 3 rfl) ?_
  refine tc_worthBy hC hI hT ⟨Nat.le_of_ble_eq_true rfl, Nat.le_of_ble_eq_true rfl⟩ ⟨Nat.zero_le _, Nat.zero_le _⟩ hl.1 (Nat.le_of_ble_eq_true rfl) dX6_isLess_8 (fun r4 τ3 H locs hT hI => ?_)
  refine lv_istore (lv' := [(4, .int r4), (3, .int r2), (0, .ref (ad 0)), (1, .int x1), (2, .int x2)]) hx hb dX6_isLess_11 hl (Nat.le_of_ble_eq_true rfl) rfl (fun ls hl => ?_)
  refine lv_iload_n hx hb dX6_isLess_13 rfl (lv_at hl 1 rfl) ?_
  refine lv_iload hx hb dX6_isLess_14 (lv_at hl 0 rfl) ?_
  refine lv_icmp_eq (tgt := 33) hx hb dX6_isLess_16 (by decide) (fun hc => ?_) (fun hc => ?_)
  · have hT := hT.1 hc
    refine lv_iload_n hx hb dX6_isLess_33 rfl (lv_at hl 3 rfl) ?_
    refine tc_bits hC hI hT ⟨Nat.le_of_ble_eq_true rfl, Nat.le_of_ble_eq_true rfl⟩ ⟨Nat.zero_le _, Nat.zero_le _⟩ hl.1 (Nat.le_of_ble_eq_true rfl) dX6_isLess_34 (fun r6 τ5 H locs hT hI => ?_)
    refine lv_iload_n hx hb dX6_isLess_37 rfl (lv_at hl 4 rfl) ?_
    refine tc_bits hC hI hT ⟨Nat.le_of_ble_eq_true rfl, Nat.le_of_ble_eq_true rfl⟩ ⟨Nat.zero_le _, Nat.zero_le _⟩ hl.1 (Nat.le_of_ble_eq_true rfl) dX6_isLess_38 (fun r8 τ7 H locs hT hI => ?_)
    refine lv_icmp_ge (tgt := 48) hx hb dX6_isLess_41 (by decide) (fun hc => ?_) (fun hc => ?_)
    · have hT := hT.1 hc
      refine lv_iconst (v := 0) hx hb dX6_isLess_48 (by decide) ?_
      exact hret _ _ _ _ _ _ (by decide) hT hI dX6_isLess_49
    · have hT := hT.2 hc
      refine lv_iconst (v := 1) hx hb dX6_isLess_44 (by decide) ?_
      refine lv_goto (tgt := 49) hx hb dX6_isLess_45 (by decide) ?_
      exact hret _ _ _ _ _ _ (by decide) hT hI dX6_isLess_49
  · have hT := hT.2 hc
    refine lv_iload_n hx hb dX6_isLess_19 rfl (lv_at hl 1 rfl) ?_
    refine lv_iload hx hb dX6_isLess_20 (lv_at hl 0 rfl) ?_
    refine lv_icmp_ge (tgt := 29) hx hb dX6_isLess_22 (by decide) (fun hc => ?_) (fun hc => ?_)
    · have hT := hT.1 hc
      refine lv_iconst (v := 0) hx hb dX6_isLess_29 (by decide) ?_
      refine lv_goto (tgt := 49) hx hb dX6_isLess_30 (by decide) ?_
      exact hret _ _ _ _ _ _ (by decide) hT hI dX6_isLess_49
    · have hT := hT.2 hc
      refine lv_iconst (v := 1) hx hb dX6_isLess_25 (by decide) ?_
      refine lv_goto (tgt := 49) hx hb dX6_isLess_26 (by decide) ?_
      exact hret _ _ _ _ _ _ (by decide) hT hI dX6_isLess_49
theorem tc_isLess {p : Program} {l : Launch} {e : Env} {R : Room} {s : State} {m : MethodId} {args : Array Value} {below : List Frame} {meth : Method} {c : Code} {H : Heap} {locs : List Loc} {cells slots : Nat} {Q : State → Prop} {cc : ByteArray} {nL : Nat} {D : va_G} {dA : Nat → ClassId} {ad : Nat → Nat} {τ : Sto} {pc sz : Nat} {ls : Array Slot} {rest : List Value} {H0 : Heap} {x1 : Int32} {x2 : Int32} {K : Int32 → Sto → Prop} (hC : tC p m c cc nL s args D dA ad) (hI : tI D dA ad sz H0 τ H locs) (hT : T_isLess τ x1 x2 K) (hR : 3 + 1 ≤ R.frames ∧ 8 + (5 + 11) + 55 ≤ R.locals) (hf : cells ≤ R.cells ∧ slots ≤ R.slots) (hsz : ls.size = nL) (hroom : (rest.map fun v => v.category).sum ≤ 8) (hdg : decode cc pc = .ok (.invokevirtual 532, 3)) (kk : ∀ (r : Int32) (τ1 : Sto) (H1 : Heap) (locs1 : List Loc), K r τ1 → tI D dA ad sz H0 τ1 H1 locs1 → W p l e R s m args below meth c H1 locs1 cells slots Q (F0 m (pc + 3) ls (.int r :: rest))) : W p l e R s m args below meth c H locs cells slots Q (F0 m pc ls (.int x2 :: .int x1 :: .ref (ad 0) :: rest)) :=
  rg_calli (rg_runV hC.1 hC.2.1 hI.1 hI.2.1 tl_0 rfl (met_isLess l D dA ad hC.2.2 sz τ x1 x2 K hT) (lw_V q2404 q2406 qs137 q170 q2407) 2 (by decide +kernel) ⟨rfl, rfl⟩ hR rfl hsz rfl hroom hf hdg) hI.2.2 (fun r τ1 H1 l1 hk hz hP hS => kk r τ1 H1 l1 hk ⟨hP, hz, hS⟩)
set_option maxHeartbeats 4000000 in
set_option maxRecDepth 100000 in
theorem met_triesAnew (l : Launch) (D : va_G) (dA : Nat → ClassId) (ad : Nat → Nat) (hJ : rgJ twL ad) (sz : Nat) (τ : Sto) (K : Sto → Prop) (hT : T_triesAnew τ K) : Met l yX6_triesAnew (ws_ yX6_triesAnew cX6_triesAnew 2 (none)) ({ frames := 1, cells := 0, slots := 0, locals := 12 }) (va_Pc [.ref (ad 0)] (rgU D vwCl dA twL ad sz τ)) (va_Qv K (rgU D vwCl dA twL ad sz) (rgAd twL ad)) 0 0 (rgAd twL ad) := by
  refine tw_metv hJ (by decide) rfl (Nat.le_of_ble_eq_true rfl) ?_
  intro p e s m args below meth c Q hC hret hI ls hl
  have hx := hC.1.1
  have hb := hC.1.2.1
  have hl : lv_has ls 2 [(0, .ref (ad 0))] := hl
  have w_2 : ∀ (n : Nat) (x1 : Int32) (τ : Sto) (H : Heap) (locs : List Loc) (ls : Array Slot), T_triesAnew_2 K n x1 τ → tI D dA ad sz s.heap τ H locs → lv_has ls 2 [(0, .ref (ad 0)), (1, .int x1)] → W p l e ({ frames := 1, cells := 0, slots := 0, locals := 12 }) s m args below meth c H locs 0 0 Q (F0 m 2 ls []) := by
    intro n
    induction n with
    | zero => intro x1 τ H locs ls hT; exact hT.elim
    | succ n ih =>
      intro x1 τ H locs ls hT hI hl
      unfold T_triesAnew_2 at hT
      refine lv_iload_n hx hb dX6_triesAnew_2 rfl (lv_at hl 1 rfl) ?_
      refine lv_bipush (v := 41) hx hb dX6_triesAnew_3 (by decide) ?_
      refine lv_icmp_ge (tgt := 26) hx hb dX6_triesAnew_5 (by decide) (fun hc => ?_) (fun hc => ?_)
      · have hT := hT.1 hc
        refine lv_aload_n hx hb dX6_triesAnew_26 rfl (lv_at hl 0 rfl) ?_
        refine lv_iconst (v := 0) hx hb dX6_triesAnew_27 (by decide) ?_
        refine tp_58 hC hI hT dX6_triesAnew_28 (fun τ1 H locs hT hI => ?_)
        exact hret _ _ _ _ _ hT hI dX6_triesAnew_31
      · have hT := hT.2 hc
        refine lv_aload_n hx hb dX6_triesAnew_8 rfl (lv_at hl 0 rfl) ?_
        refine tg_51 hC hI dX6_triesAnew_9 ?_
        refine lv_iload_n hx hb dX6_triesAnew_12 rfl (lv_at hl 1 rfl) ?_
        refine lv_aload_n hx hb dX6_triesAnew_13 rfl (lv_at hl 0 rfl) ?_
        refine tg_52 hC hI dX6_triesAnew_14 ?_
        refine lv_iload_n hx hb dX6_triesAnew_17 rfl (lv_at hl 1 rfl) ?_
        refine tw_iald hC hI tl_53 hT dX6_triesAnew_18 (fun hT => ?_)
        refine tw_iast hC hI tl_52 hT dX6_triesAnew_19 (fun τ2 H locs hT hI => ?_)
        refine lv_iinc (v := x1 + 1) (lv' := [(1, .int (x1 + 1)), (0, .ref (ad 0))]) hx hb dX6_triesAnew_20 hl (k := 1) rfl rfl (Nat.le_of_ble_eq_true rfl) rfl (fun ls hl => ?_)
        refine lv_goto (tgt := 2) hx hb dX6_triesAnew_23 (by decide) ?_
        exact ih (x1 + 1) τ2 _ _ _ hT hI (lv_sub hl [1, 0] rfl)
  unfold T_triesAnew at hT
  refine lv_iconst (v := 0) hx hb dX6_triesAnew_0 (by decide) ?_
  refine lv_istore_n (lv' := [(1, .int 0), (0, .ref (ad 0))]) hx hb dX6_triesAnew_1 rfl hl (Nat.le_of_ble_eq_true rfl) rfl (fun ls hl => ?_)
  obtain ⟨n2, hT⟩ := hT
  exact w_2 n2 0 τ _ _ _ hT hI (lv_sub hl [1, 0] rfl)
theorem tc_triesAnew {p : Program} {l : Launch} {e : Env} {R : Room} {s : State} {m : MethodId} {args : Array Value} {below : List Frame} {meth : Method} {c : Code} {H : Heap} {locs : List Loc} {cells slots : Nat} {Q : State → Prop} {cc : ByteArray} {nL : Nat} {D : va_G} {dA : Nat → ClassId} {ad : Nat → Nat} {τ : Sto} {pc sz : Nat} {ls : Array Slot} {rest : List Value} {H0 : Heap} {K : Sto → Prop} (hC : tC p m c cc nL s args D dA ad) (hI : tI D dA ad sz H0 τ H locs) (hT : T_triesAnew τ K) (hR : 1 + 1 ≤ R.frames ∧ 8 + (2 + 11) + 12 ≤ R.locals) (hf : cells ≤ R.cells ∧ slots ≤ R.slots) (hsz : ls.size = nL) (hroom : (rest.map fun v => v.category).sum ≤ 8) (hdg : decode cc pc = .ok (.invokevirtual 524, 3)) (kk : ∀ (τ1 : Sto) (H1 : Heap) (locs1 : List Loc), K τ1 → tI D dA ad sz H0 τ1 H1 locs1 → W p l e R s m args below meth c H1 locs1 cells slots Q (F0 m (pc + 3) ls (rest))) : W p l e R s m args below meth c H locs cells slots Q (F0 m pc ls (.ref (ad 0) :: rest)) :=
  rg_callv (rg_runV hC.1 hC.2.1 hI.1 hI.2.1 tl_0 rfl (met_triesAnew l D dA ad hC.2.2 sz τ K hT) (lw_V q2416 q2418 qs140 q170 q2419) 0 (by decide +kernel) ⟨rfl, rfl⟩ hR rfl hsz rfl hroom hf hdg) hI.2.2 (fun τ1 H1 l1 hk hz hP hS => kk τ1 H1 l1 hk ⟨hP, hz, hS⟩)
set_option maxHeartbeats 4000000 in
set_option maxRecDepth 100000 in
theorem met_useStruck (l : Launch) (D : va_G) (dA : Nat → ClassId) (ad : Nat → Nat) (hJ : rgJ twL ad) (sz : Nat) (τ : Sto) (x1 : Int32) (K : Int32 → Sto → Prop) (hT : T_useStruck τ x1 K) : Met l yX6_useStruck (ws_ yX6_useStruck cX6_useStruck 3 (some .int)) ({ frames := 6, cells := 0, slots := 0, locals := 133 }) (va_Pc [.ref (ad 0), .int x1] (rgU D vwCl dA twL ad sz τ)) (va_Qi K (rgU D vwCl dA twL ad sz) (rgAd twL ad)) 0 0 (rgAd twL ad) := by
  refine tw_meti hJ (by decide) rfl (Nat.le_of_ble_eq_true rfl) ?_
  intro p e s m args below meth c Q hC hret hI ls hl
  have hx := hC.1.1
  have hb := hC.1.2.1
  have hl : lv_has ls 3 [(0, .ref (ad 0)), (1, .int x1)] := hl
  have w_2 : ∀ (x1 : Int32) (n : Nat) (x2 : Int32) (τ : Sto) (H : Heap) (locs : List Loc) (ls : Array Slot), T_useStruck_2 K x1 n x2 τ → tI D dA ad sz s.heap τ H locs → lv_has ls 3 [(0, .ref (ad 0)), (1, .int x1), (2, .int x2)] → W p l e ({ frames := 6, cells := 0, slots := 0, locals := 133 }) s m args below meth c H locs 0 0 Q (F0 m 2 ls []) := by
    intro x1 n
    induction n with
    | zero => intro x2 τ H locs ls hT; exact hT.elim
    | succ n ih =>
      intro x2 τ H locs ls hT hI hl
      unfold T_useStruck_2 at hT
      refine lv_iload_n hx hb dX6_useStruck_2 rfl (lv_at hl 2 rfl) ?_
      refine lv_aload_n hx hb dX6_useStruck_3 rfl (lv_at hl 0 rfl) ?_
      refine tc_thingMany hC hI hT ⟨Nat.le_of_ble_eq_true rfl, Nat.le_of_ble_eq_true rfl⟩ ⟨Nat.zero_le _, Nat.zero_le _⟩ hl.1 (Nat.le_of_ble_eq_true rfl) dX6_useStruck_4 (fun r2 τ1 H locs hT hI => ?_)
      refine lv_icmp_ge (tgt := 38) hx hb dX6_useStruck_7 (by decide) (fun hc => ?_) (fun hc => ?_)
      · have hT := hT.1 hc
        refine lv_aload_n hx hb dX6_useStruck_38 rfl (lv_at hl 0 rfl) ?_
        refine lv_aload_n hx hb dX6_useStruck_39 rfl (lv_at hl 0 rfl) ?_
        refine tc_standSet hC hI hT ⟨Nat.le_of_ble_eq_true rfl, Nat.le_of_ble_eq_true rfl⟩ ⟨Nat.zero_le _, Nat.zero_le _⟩ hl.1 (Nat.le_of_ble_eq_true rfl) dX6_useStruck_40 (fun r4 τ3 H locs hT hI => ?_)
        refine tc_useBy hC hI hT ⟨Nat.le_of_ble_eq_true rfl, Nat.le_of_ble_eq_true rfl⟩ ⟨Nat.zero_le _, Nat.zero_le _⟩ hl.1 (Nat.le_of_ble_eq_true rfl) dX6_useStruck_43 (fun r6 τ5 H locs hT hI => ?_)
        refine lv_istore_n (lv' := [(2, .int r6), (0, .ref (ad 0)), (1, .int x1)]) hx hb dX6_useStruck_46 rfl hl (Nat.le_of_ble_eq_true rfl) rfl (fun ls hl => ?_)
        refine lv_aload_n hx hb dX6_useStruck_47 rfl (lv_at hl 1 rfl) ?_
        refine tc_triesAnew hC hI hT ⟨Nat.le_of_ble_eq_true rfl, Nat.le_of_ble_eq_true rfl⟩ ⟨Nat.zero_le _, Nat.zero_le _⟩ hl.1 (Nat.le_of_ble_eq_true rfl) dX6_useStruck_48 (fun τ7 H locs hT hI => ?_)
        refine lv_iload_n hx hb dX6_useStruck_51 rfl (lv_at hl 0 rfl) ?_
        exact hret _ _ _ _ _ _ hT hI dX6_useStruck_52
      · have hT := hT.2 hc
        refine lv_iload_n hx hb dX6_useStruck_10 rfl (lv_at hl 1 rfl) ?_
        refine lv_iload_n hx hb dX6_useStruck_11 rfl (lv_at hl 2 rfl) ?_
        refine lv_ishr hx hb dX6_useStruck_12 ?_
        refine lv_iconst (v := 1) hx hb dX6_useStruck_13 (by decide) ?_
        refine lv_iand hx hb dX6_useStruck_14 ?_
        refine lv_if_ne (tgt := 21) hx hb dX6_useStruck_15 (by decide) (fun hc => ?_) (fun hc => ?_)
        · have hT := hT.1 hc
          refine lv_aload_n hx hb dX6_useStruck_21 rfl (lv_at hl 0 rfl) ?_
          refine lv_iload_n hx hb dX6_useStruck_22 rfl (lv_at hl 2 rfl) ?_
          refine tc_isBreaking hC hI hT ⟨Nat.le_of_ble_eq_true rfl, Nat.le_of_ble_eq_true rfl⟩ ⟨Nat.zero_le _, Nat.zero_le _⟩ hl.1 (Nat.le_of_ble_eq_true rfl) dX6_useStruck_23 (fun τ8 H locs hT hI => ?_)
          refine lv_aload_n hx hb dX6_useStruck_26 rfl (lv_at hl 0 rfl) ?_
          refine lv_iload_n hx hb dX6_useStruck_27 rfl (lv_at hl 2 rfl) ?_
          refine lv_iconst (v := 0) hx hb dX6_useStruck_28 (by decide) ?_
          refine tc_isMending hC hI hT ⟨Nat.le_of_ble_eq_true rfl, Nat.le_of_ble_eq_true rfl⟩ ⟨Nat.zero_le _, Nat.zero_le _⟩ hl.1 (Nat.le_of_ble_eq_true rfl) dX6_useStruck_29 (fun τ9 H locs hT hI => ?_)
          refine lv_iinc (v := x2 + 1) (lv' := [(2, .int (x2 + 1)), (0, .ref (ad 0)), (1, .int x1)]) hx hb dX6_useStruck_32 hl (k := 2) rfl rfl (Nat.le_of_ble_eq_true rfl) rfl (fun ls hl => ?_)
          refine lv_goto (tgt := 2) hx hb dX6_useStruck_35 (by decide) ?_
          exact ih (x2 + 1) τ9 _ _ _ hT hI (lv_sub hl [1, 2, 0] rfl)
        · have hT := hT.2 hc
          refine lv_goto (tgt := 32) hx hb dX6_useStruck_18 (by decide) ?_
          refine lv_iinc (v := x2 + 1) (lv' := [(2, .int (x2 + 1)), (0, .ref (ad 0)), (1, .int x1)]) hx hb dX6_useStruck_32 hl (k := 2) rfl rfl (Nat.le_of_ble_eq_true rfl) rfl (fun ls hl => ?_)
          refine lv_goto (tgt := 2) hx hb dX6_useStruck_35 (by decide) ?_
          exact ih (x2 + 1) τ1 _ _ _ hT hI (lv_sub hl [1, 2, 0] rfl)
  unfold T_useStruck at hT
  refine lv_iconst (v := 0) hx hb dX6_useStruck_0 (by decide) ?_
  refine lv_istore_n (lv' := [(2, .int 0), (0, .ref (ad 0)), (1, .int x1)]) hx hb dX6_useStruck_1 rfl hl (Nat.le_of_ble_eq_true rfl) rfl (fun ls hl => ?_)
  obtain ⟨n2, hT⟩ := hT
  exact w_2 x1 n2 0 τ _ _ _ hT hI (lv_sub hl [1, 2, 0] rfl)
theorem tc_useStruck {p : Program} {l : Launch} {e : Env} {R : Room} {s : State} {m : MethodId} {args : Array Value} {below : List Frame} {meth : Method} {c : Code} {H : Heap} {locs : List Loc} {cells slots : Nat} {Q : State → Prop} {cc : ByteArray} {nL : Nat} {D : va_G} {dA : Nat → ClassId} {ad : Nat → Nat} {τ : Sto} {pc sz : Nat} {ls : Array Slot} {rest : List Value} {H0 : Heap} {x1 : Int32} {K : Int32 → Sto → Prop} (hC : tC p m c cc nL s args D dA ad) (hI : tI D dA ad sz H0 τ H locs) (hT : T_useStruck τ x1 K) (hR : 6 + 1 ≤ R.frames ∧ 8 + (3 + 11) + 133 ≤ R.locals) (hf : cells ≤ R.cells ∧ slots ≤ R.slots) (hsz : ls.size = nL) (hroom : (rest.map fun v => v.category).sum ≤ 8) (hdg : decode cc pc = .ok (.invokevirtual 535, 3)) (kk : ∀ (r : Int32) (τ1 : Sto) (H1 : Heap) (locs1 : List Loc), K r τ1 → tI D dA ad sz H0 τ1 H1 locs1 → W p l e R s m args below meth c H1 locs1 cells slots Q (F0 m (pc + 3) ls (.int r :: rest))) : W p l e R s m args below meth c H locs cells slots Q (F0 m pc ls (.int x1 :: .ref (ad 0) :: rest)) :=
  rg_calli (rg_runV hC.1 hC.2.1 hI.1 hI.2.1 tl_0 rfl (met_useStruck l D dA ad hC.2.2 sz τ x1 K hT) (lw_V q2412 q2414 qs139 q170 q2415) 1 (by decide +kernel) ⟨rfl, rfl⟩ hR rfl hsz rfl hroom hf hdg) hI.2.2 (fun r τ1 H1 l1 hk hz hP hS => kk r τ1 H1 l1 hk ⟨hP, hz, hS⟩)
set_option maxHeartbeats 4000000 in
set_option maxRecDepth 100000 in
theorem met_house (l : Launch) (D : va_G) (dA : Nat → ClassId) (ad : Nat → Nat) (hJ : rgJ twL ad) (sz : Nat) (τ : Sto) (x1 : Int32) (x2 : Int32) (K : Int32 → Sto → Prop) (hT : T_house τ x1 x2 K) : Met l yX6_house (ws_ yX6_house cX6_house 6 (some .int)) ({ frames := 7, cells := 0, slots := 0, locals := 155 }) (va_Pc [.ref (ad 0), .int x1, .int x2] (rgU D vwCl dA twL ad sz τ)) (va_Qi K (rgU D vwCl dA twL ad sz) (rgAd twL ad)) 0 0 (rgAd twL ad) := by
  refine tw_meti hJ (by decide) rfl (Nat.le_of_ble_eq_true rfl) ?_
  intro p e s m args below meth c Q hC hret hI ls hl
  have hx := hC.1.1
  have hb := hC.1.2.1
  have hl : lv_has ls 6 [(0, .ref (ad 0)), (1, .int x1), (2, .int x2)] := hl
  have w_85 : ∀ (x1 : Int32) (x2 : Int32) (x3 : Int32) (k47 : Int32 → Int32 → Sto → Prop), (∀ (x4 : Int32) (x5 : Int32) (τ : Sto) (H : Heap) (locs : List Loc) (ls : Array Slot), k47 x4 x5 τ → tI D dA ad sz s.heap τ H locs → lv_has ls 6 [(0, .ref (ad 0)), (1, .int x1), (2, .int x2), (3, .int x3), (4, .int x4), (5, .int x5)] → W p l e ({ frames := 7, cells := 0, slots := 0, locals := 155 }) s m args below meth c H locs 0 0 Q (F0 m 47 ls [])) → ∀ (x4 : Int32) (x5 : Int32) (τ : Sto) (H : Heap) (locs : List Loc) (ls : Array Slot), T_house_85 K k47 x1 x2 x3 x4 x5 τ → tI D dA ad sz s.heap τ H locs → lv_has ls 6 [(0, .ref (ad 0)), (1, .int x1), (2, .int x2), (3, .int x3), (4, .int x4), (5, .int x5)] → W p l e ({ frames := 7, cells := 0, slots := 0, locals := 155 }) s m args below meth c H locs 0 0 Q (F0 m 85 ls []) := by
    intro x1 x2 x3 k47 hk47 x4 x5 τ H locs ls hT hI hl
    unfold T_house_85 at hT
    refine lv_aload_n hx hb dX6_house_85 rfl (lv_at hl 0 rfl) ?_
    refine lv_iload hx hb dX6_house_86 (lv_at hl 5 rfl) ?_
    refine tc_useStruck hC hI hT ⟨Nat.le_of_ble_eq_true rfl, Nat.le_of_ble_eq_true rfl⟩ ⟨Nat.zero_le _, Nat.zero_le _⟩ hl.1 (Nat.le_of_ble_eq_true rfl) dX6_house_88 (fun r2 τ1 H locs hT hI => ?_)
    refine lv_iload_n hx hb dX6_house_91 rfl (lv_at hl 1 rfl) ?_
    refine lv_icmp_lt (tgt := 99) hx hb dX6_house_92 (by decide) (fun hc => ?_) (fun hc => ?_)
    · have hT := hT.1 hc
      refine lv_iinc (v := x5 + 1) (lv' := [(5, .int (x5 + 1)), (0, .ref (ad 0)), (1, .int x1), (2, .int x2), (3, .int x3), (4, .int x4)]) hx hb dX6_house_99 hl (k := 5) rfl rfl (Nat.le_of_ble_eq_true rfl) rfl (fun ls hl => ?_)
      refine lv_goto (tgt := 47) hx hb dX6_house_102 (by decide) ?_
      exact hk47 x4 (x5 + 1) τ1 _ _ _ hT hI (lv_sub hl [1, 2, 3, 4, 5, 0] rfl)
    · have hT := hT.2 hc
      refine lv_iload hx hb dX6_house_95 (lv_at hl 5 rfl) ?_
      refine lv_istore (lv' := [(4, .int x5), (0, .ref (ad 0)), (1, .int x1), (2, .int x2), (3, .int x3), (5, .int x5)]) hx hb dX6_house_97 hl (Nat.le_of_ble_eq_true rfl) rfl (fun ls hl => ?_)
      refine lv_iinc (v := x5 + 1) (lv' := [(5, .int (x5 + 1)), (4, .int x5), (0, .ref (ad 0)), (1, .int x1), (2, .int x2), (3, .int x3)]) hx hb dX6_house_99 hl (k := 5) rfl rfl (Nat.le_of_ble_eq_true rfl) rfl (fun ls hl => ?_)
      refine lv_goto (tgt := 47) hx hb dX6_house_102 (by decide) ?_
      exact hk47 x5 (x5 + 1) τ1 _ _ _ hT hI (lv_sub hl [2, 3, 4, 5, 1, 0] rfl)
  have w_47 : ∀ (x1 : Int32) (x2 : Int32) (x3 : Int32) (n : Nat) (x4 : Int32) (x5 : Int32) (τ : Sto) (H : Heap) (locs : List Loc) (ls : Array Slot), T_house_47 K x1 x2 x3 n x4 x5 τ → tI D dA ad sz s.heap τ H locs → lv_has ls 6 [(0, .ref (ad 0)), (1, .int x1), (2, .int x2), (3, .int x3), (4, .int x4), (5, .int x5)] → W p l e ({ frames := 7, cells := 0, slots := 0, locals := 155 }) s m args below meth c H locs 0 0 Q (F0 m 47 ls []) := by
    intro x1 x2 x3 n
    induction n with
    | zero => intro x4 x5 τ H locs ls hT; exact hT.elim
    | succ n ih =>
      intro x4 x5 τ H locs ls hT hI hl
      unfold T_house_47 at hT
      refine lv_iload hx hb dX6_house_47 (lv_at hl 5 rfl) ?_
      refine lv_iconst (v := 1) hx hb dX6_house_49 (by decide) ?_
      refine lv_aload_n hx hb dX6_house_50 rfl (lv_at hl 0 rfl) ?_
      refine tc_thingMany hC hI hT ⟨Nat.le_of_ble_eq_true rfl, Nat.le_of_ble_eq_true rfl⟩ ⟨Nat.zero_le _, Nat.zero_le _⟩ hl.1 (Nat.le_of_ble_eq_true rfl) dX6_house_51 (fun r4 τ3 H locs hT hI => ?_)
      refine lv_ishl hx hb dX6_house_54 ?_
      refine lv_icmp_ge (tgt := 105) hx hb dX6_house_55 (by decide) (fun hc => ?_) (fun hc => ?_)
      · have hT := hT.1 hc
        refine lv_aload_n hx hb dX6_house_105 rfl (lv_at hl 0 rfl) ?_
        refine tc_takesBack hC hI hT ⟨Nat.le_of_ble_eq_true rfl, Nat.le_of_ble_eq_true rfl⟩ ⟨Nat.zero_le _, Nat.zero_le _⟩ hl.1 (Nat.le_of_ble_eq_true rfl) dX6_house_106 (fun τ5 H locs hT hI => ?_)
        refine lv_iload hx hb dX6_house_109 (lv_at hl 4 rfl) ?_
        refine lv_iconst (v := -1) hx hb dX6_house_111 (by decide) ?_
        refine lv_icmp_ne (tgt := 119) hx hb dX6_house_112 (by decide) (fun hc => ?_) (fun hc => ?_)
        · have hT := hT.1 hc
          refine lv_iload_n hx hb dX6_house_119 rfl (lv_at hl 2 rfl) ?_
          refine lv_if_ne (tgt := 128) hx hb dX6_house_120 (by decide) (fun hc => ?_) (fun hc => ?_)
          · have hT := hT.1 hc
            refine lv_aload_n hx hb dX6_house_128 rfl (lv_at hl 0 rfl) ?_
            refine lv_iload hx hb dX6_house_129 (lv_at hl 4 rfl) ?_
            refine tc_worthBy hC hI hT ⟨Nat.le_of_ble_eq_true rfl, Nat.le_of_ble_eq_true rfl⟩ ⟨Nat.zero_le _, Nat.zero_le _⟩ hl.1 (Nat.le_of_ble_eq_true rfl) dX6_house_131 (fun r7 τ6 H locs hT hI => ?_)
            exact hret _ _ _ _ _ _ hT hI dX6_house_134
          · have hT := hT.2 hc
            refine lv_iload hx hb dX6_house_123 (lv_at hl 4 rfl) ?_
            refine lv_goto (tgt := 134) hx hb dX6_house_125 (by decide) ?_
            exact hret _ _ _ _ _ _ hT hI dX6_house_134
        · have hT := hT.2 hc
          refine lv_iconst (v := -1) hx hb dX6_house_115 (by decide) ?_
          refine lv_goto (tgt := 134) hx hb dX6_house_116 (by decide) ?_
          exact hret _ _ _ _ _ _ hT hI dX6_house_134
      · have hT := hT.2 hc
        refine lv_iload hx hb dX6_house_58 (lv_at hl 5 rfl) ?_
        refine lv_iload_n hx hb dX6_house_60 rfl (lv_at hl 3 rfl) ?_
        refine lv_iand hx hb dX6_house_61 ?_
        refine lv_if_ne (tgt := 99) hx hb dX6_house_62 (by decide) (fun hc => ?_) (fun hc => ?_)
        · have hT := hT.1 hc
          refine lv_iinc (v := x5 + 1) (lv' := [(5, .int (x5 + 1)), (0, .ref (ad 0)), (1, .int x1), (2, .int x2), (3, .int x3), (4, .int x4)]) hx hb dX6_house_99 hl (k := 5) rfl rfl (Nat.le_of_ble_eq_true rfl) rfl (fun ls hl => ?_)
          refine lv_goto (tgt := 47) hx hb dX6_house_102 (by decide) ?_
          exact ih x4 (x5 + 1) τ3 _ _ _ hT hI (lv_sub hl [1, 2, 3, 4, 5, 0] rfl)
        · have hT := hT.2 hc
          refine lv_iload hx hb dX6_house_65 (lv_at hl 4 rfl) ?_
          refine lv_iconst (v := -1) hx hb dX6_house_67 (by decide) ?_
          refine lv_icmp_eq (tgt := 85) hx hb dX6_house_68 (by decide) (fun hc => ?_) (fun hc => ?_)
          · have hT := hT.1 hc
            exact w_85 x1 x2 x3 (T_house_47 K x1 x2 x3 n) (ih) x4 x5 τ3 _ _ _ hT hI (lv_sub hl [0, 1, 2, 3, 4, 5] rfl)
          · have hT := hT.2 hc
            refine lv_aload_n hx hb dX6_house_71 rfl (lv_at hl 0 rfl) ?_
            refine lv_iload hx hb dX6_house_72 (lv_at hl 5 rfl) ?_
            refine lv_iload hx hb dX6_house_74 (lv_at hl 4 rfl) ?_
            refine tc_isLess hC hI hT ⟨Nat.le_of_ble_eq_true rfl, Nat.le_of_ble_eq_true rfl⟩ ⟨Nat.zero_le _, Nat.zero_le _⟩ hl.1 (Nat.le_of_ble_eq_true rfl) dX6_house_76 (fun r9 τ8 H locs hT hI => ?_)
            refine lv_if_ne (tgt := 85) hx hb dX6_house_79 (by decide) (fun hc => ?_) (fun hc => ?_)
            · have hT := hT.1 hc
              exact w_85 x1 x2 x3 (T_house_47 K x1 x2 x3 n) (ih) x4 x5 τ8 _ _ _ hT hI (lv_sub hl [0, 1, 2, 3, 4, 5] rfl)
            · have hT := hT.2 hc
              refine lv_goto (tgt := 99) hx hb dX6_house_82 (by decide) ?_
              refine lv_iinc (v := x5 + 1) (lv' := [(5, .int (x5 + 1)), (0, .ref (ad 0)), (1, .int x1), (2, .int x2), (3, .int x3), (4, .int x4)]) hx hb dX6_house_99 hl (k := 5) rfl rfl (Nat.le_of_ble_eq_true rfl) rfl (fun ls hl => ?_)
              refine lv_goto (tgt := 47) hx hb dX6_house_102 (by decide) ?_
              exact ih x4 (x5 + 1) τ8 _ _ _ hT hI (lv_sub hl [1, 2, 3, 4, 5, 0] rfl)
  unfold T_house at hT
  refine lv_aload_n hx hb dX6_house_0 rfl (lv_at hl 0 rfl) ?_
  refine tc_menderMany hC hI hT ⟨Nat.le_of_ble_eq_true rfl, Nat.le_of_ble_eq_true rfl⟩ ⟨Nat.zero_le _, Nat.zero_le _⟩ hl.1 (Nat.le_of_ble_eq_true rfl) dX6_house_1 (fun r11 τ10 H locs hT hI => ?_)
  refine lv_if_eq (tgt := 29) hx hb dX6_house_4 (by decide) (fun hc => ?_) (fun hc => ?_)
  · have hT := hT.1 hc
    refine lv_iconst (v := -1) hx hb dX6_house_29 (by decide) ?_
    exact hret _ _ _ _ _ _ hT hI dX6_house_30
  · have hT := hT.2 hc
    refine lv_iload_n hx hb dX6_house_7 rfl (lv_at hl 1 rfl) ?_
    refine lv_i2l hx hb dX6_house_8 rfl ?_
    refine lv_lconst (v := 0) hx hb dX6_house_9 (by decide) ?_
    refine lv_ldc2 hx hb hC.1.2.2.2.1 (hC.1.2.2.2.2 _ q2403) dX6_house_10 ?_
    refine tc_isIn hC hI hT ⟨Nat.le_of_ble_eq_true rfl, Nat.le_of_ble_eq_true rfl⟩ ⟨Nat.zero_le _, Nat.zero_le _⟩ hl.1 (Nat.le_of_ble_eq_true rfl) dX6_house_13 (fun r13 τ12 H locs hT hI => ?_)
    refine lv_if_eq (tgt := 29) hx hb dX6_house_16 (by decide) (fun hc => ?_) (fun hc => ?_)
    · have hT := hT.1 hc
      refine lv_iconst (v := -1) hx hb dX6_house_29 (by decide) ?_
      exact hret _ _ _ _ _ _ hT hI dX6_house_30
    · have hT := hT.2 hc
      refine lv_iload_n hx hb dX6_house_19 rfl (lv_at hl 2 rfl) ?_
      refine lv_i2l hx hb dX6_house_20 rfl ?_
      refine lv_lconst (v := 0) hx hb dX6_house_21 (by decide) ?_
      refine lv_lconst (v := 1) hx hb dX6_house_22 (by decide) ?_
      refine tc_isIn hC hI hT ⟨Nat.le_of_ble_eq_true rfl, Nat.le_of_ble_eq_true rfl⟩ ⟨Nat.zero_le _, Nat.zero_le _⟩ hl.1 (Nat.le_of_ble_eq_true rfl) dX6_house_23 (fun r15 τ14 H locs hT hI => ?_)
      refine lv_if_ne (tgt := 31) hx hb dX6_house_26 (by decide) (fun hc => ?_) (fun hc => ?_)
      · have hT := hT.1 hc
        refine lv_aload_n hx hb dX6_house_31 rfl (lv_at hl 0 rfl) ?_
        refine lv_iconst (v := 1) hx hb dX6_house_32 (by decide) ?_
        refine tc_setOf hC hI hT ⟨Nat.le_of_ble_eq_true rfl, Nat.le_of_ble_eq_true rfl⟩ ⟨Nat.zero_le _, Nat.zero_le _⟩ hl.1 (Nat.le_of_ble_eq_true rfl) dX6_house_33 (fun r17 τ16 H locs hT hI => ?_)
        refine lv_istore_n (lv' := [(3, .int r17), (0, .ref (ad 0)), (1, .int x1), (2, .int x2)]) hx hb dX6_house_36 rfl hl (Nat.le_of_ble_eq_true rfl) rfl (fun ls hl => ?_)
        refine lv_iconst (v := -1) hx hb dX6_house_37 (by decide) ?_
        refine lv_istore (lv' := [(4, .int (-1)), (3, .int r17), (0, .ref (ad 0)), (1, .int x1), (2, .int x2)]) hx hb dX6_house_38 hl (Nat.le_of_ble_eq_true rfl) rfl (fun ls hl => ?_)
        refine lv_aload_n hx hb dX6_house_40 rfl (lv_at hl 2 rfl) ?_
        refine tc_putsAside hC hI hT ⟨Nat.le_of_ble_eq_true rfl, Nat.le_of_ble_eq_true rfl⟩ ⟨Nat.zero_le _, Nat.zero_le _⟩ hl.1 (Nat.le_of_ble_eq_true rfl) dX6_house_41 (fun τ18 H locs hT hI => ?_)
        refine lv_iconst (v := 0) hx hb dX6_house_44 (by decide) ?_
        refine lv_istore (lv' := [(5, .int 0), (4, .int (-1)), (3, .int r17), (0, .ref (ad 0)), (1, .int x1), (2, .int x2)]) hx hb dX6_house_45 hl (Nat.le_of_ble_eq_true rfl) rfl (fun ls hl => ?_)
        obtain ⟨n47, hT⟩ := hT
        exact w_47 x1 x2 r17 n47 (-1) 0 τ18 _ _ _ hT hI (lv_sub hl [3, 4, 5, 2, 1, 0] rfl)
      · have hT := hT.2 hc
        refine lv_iconst (v := -1) hx hb dX6_house_29 (by decide) ?_
        exact hret _ _ _ _ _ _ hT hI dX6_house_30
set_option maxHeartbeats 4000000 in
set_option maxRecDepth 100000 in
theorem met_gain (l : Launch) (D : va_G) (dA : Nat → ClassId) (ad : Nat → Nat) (hJ : rgJ twL ad) (sz : Nat) (τ : Sto) (x1 : Int32) (x2 : Int32) (K : Int64 → Sto → Prop) (hT : T_gain τ x1 x2 K) : Met l yX6_gain (ws_ yX6_gain cX6_gain 5 (some .long)) ({ frames := 6, cells := 0, slots := 0, locals := 133 }) (va_Pc [.ref (ad 0), .int x1, .int x2] (rgU D vwCl dA twL ad sz τ)) (va_Ql K (rgU D vwCl dA twL ad sz) (rgAd twL ad)) 0 0 (rgAd twL ad) := by
  refine tw_metl hJ (by decide) rfl (Nat.le_of_ble_eq_true rfl) ?_
  intro p e s m args below meth c Q hC hret hI ls hl
  have hx := hC.1.1
  have hb := hC.1.2.1
  have hl : lv_has ls 5 [(0, .ref (ad 0)), (1, .int x1), (2, .int x2)] := hl
  unfold T_gain at hT
  refine lv_aload_n hx hb dX6_gain_0 rfl (lv_at hl 0 rfl) ?_
  refine lv_iload_n hx hb dX6_gain_1 rfl (lv_at hl 1 rfl) ?_
  refine tc_isThing hC hI hT ⟨Nat.le_of_ble_eq_true rfl, Nat.le_of_ble_eq_true rfl⟩ ⟨Nat.zero_le _, Nat.zero_le _⟩ hl.1 (Nat.le_of_ble_eq_true rfl) dX6_gain_2 (fun r2 τ1 H locs hT hI => ?_)
  refine lv_if_eq (tgt := 24) hx hb dX6_gain_5 (by decide) (fun hc => ?_) (fun hc => ?_)
  · have hT := hT.1 hc
    refine lv_ldc2 hx hb hC.1.2.2.2.1 (hC.1.2.2.2.2 _ q2424) dX6_gain_24 ?_
    exact hret _ _ _ _ _ _ hT hI dX6_gain_27
  · have hT := hT.2 hc
    refine lv_aload_n hx hb dX6_gain_8 rfl (lv_at hl 0 rfl) ?_
    refine lv_iload_n hx hb dX6_gain_9 rfl (lv_at hl 2 rfl) ?_
    refine tc_isMender hC hI hT ⟨Nat.le_of_ble_eq_true rfl, Nat.le_of_ble_eq_true rfl⟩ ⟨Nat.zero_le _, Nat.zero_le _⟩ hl.1 (Nat.le_of_ble_eq_true rfl) dX6_gain_10 (fun r4 τ3 H locs hT hI => ?_)
    refine lv_if_eq (tgt := 24) hx hb dX6_gain_13 (by decide) (fun hc => ?_) (fun hc => ?_)
    · have hT := hT.1 hc
      refine lv_ldc2 hx hb hC.1.2.2.2.1 (hC.1.2.2.2.2 _ q2424) dX6_gain_24 ?_
      exact hret _ _ _ _ _ _ hT hI dX6_gain_27
    · have hT := hT.2 hc
      refine lv_aload_n hx hb dX6_gain_16 rfl (lv_at hl 0 rfl) ?_
      refine lv_iload_n hx hb dX6_gain_17 rfl (lv_at hl 1 rfl) ?_
      refine tc_isBroken hC hI hT ⟨Nat.le_of_ble_eq_true rfl, Nat.le_of_ble_eq_true rfl⟩ ⟨Nat.zero_le _, Nat.zero_le _⟩ hl.1 (Nat.le_of_ble_eq_true rfl) dX6_gain_18 (fun r6 τ5 H locs hT hI => ?_)
      refine lv_if_ne (tgt := 28) hx hb dX6_gain_21 (by decide) (fun hc => ?_) (fun hc => ?_)
      · have hT := hT.1 hc
        refine lv_aload_n hx hb dX6_gain_28 rfl (lv_at hl 0 rfl) ?_
        refine lv_aload_n hx hb dX6_gain_29 rfl (lv_at hl 0 rfl) ?_
        refine tc_standSet hC hI hT ⟨Nat.le_of_ble_eq_true rfl, Nat.le_of_ble_eq_true rfl⟩ ⟨Nat.zero_le _, Nat.zero_le _⟩ hl.1 (Nat.le_of_ble_eq_true rfl) dX6_gain_30 (fun r8 τ7 H locs hT hI => ?_)
        refine tc_useBy hC hI hT ⟨Nat.le_of_ble_eq_true rfl, Nat.le_of_ble_eq_true rfl⟩ ⟨Nat.zero_le _, Nat.zero_le _⟩ hl.1 (Nat.le_of_ble_eq_true rfl) dX6_gain_33 (fun r10 τ9 H locs hT hI => ?_)
        refine lv_istore_n (lv' := [(3, .int r10), (0, .ref (ad 0)), (1, .int x1), (2, .int x2)]) hx hb dX6_gain_36 rfl hl (Nat.le_of_ble_eq_true rfl) rfl (fun ls hl => ?_)
        refine lv_aload_n hx hb dX6_gain_37 rfl (lv_at hl 1 rfl) ?_
        refine tc_putsAside hC hI hT ⟨Nat.le_of_ble_eq_true rfl, Nat.le_of_ble_eq_true rfl⟩ ⟨Nat.zero_le _, Nat.zero_le _⟩ hl.1 (Nat.le_of_ble_eq_true rfl) dX6_gain_38 (fun τ11 H locs hT hI => ?_)
        refine lv_aload_n hx hb dX6_gain_41 rfl (lv_at hl 1 rfl) ?_
        refine lv_iload_n hx hb dX6_gain_42 rfl (lv_at hl 2 rfl) ?_
        refine lv_iload_n hx hb dX6_gain_43 rfl (lv_at hl 3 rfl) ?_
        refine tc_isMending hC hI hT ⟨Nat.le_of_ble_eq_true rfl, Nat.le_of_ble_eq_true rfl⟩ ⟨Nat.zero_le _, Nat.zero_le _⟩ hl.1 (Nat.le_of_ble_eq_true rfl) dX6_gain_44 (fun τ12 H locs hT hI => ?_)
        refine lv_aload_n hx hb dX6_gain_47 rfl (lv_at hl 1 rfl) ?_
        refine lv_aload_n hx hb dX6_gain_48 rfl (lv_at hl 1 rfl) ?_
        refine tc_standSet hC hI hT ⟨Nat.le_of_ble_eq_true rfl, Nat.le_of_ble_eq_true rfl⟩ ⟨Nat.zero_le _, Nat.zero_le _⟩ hl.1 (Nat.le_of_ble_eq_true rfl) dX6_gain_49 (fun r14 τ13 H locs hT hI => ?_)
        refine tc_useBy hC hI hT ⟨Nat.le_of_ble_eq_true rfl, Nat.le_of_ble_eq_true rfl⟩ ⟨Nat.zero_le _, Nat.zero_le _⟩ hl.1 (Nat.le_of_ble_eq_true rfl) dX6_gain_52 (fun r16 τ15 H locs hT hI => ?_)
        refine lv_istore (lv' := [(4, .int r16), (3, .int r10), (0, .ref (ad 0)), (1, .int x1), (2, .int x2)]) hx hb dX6_gain_55 hl (Nat.le_of_ble_eq_true rfl) rfl (fun ls hl => ?_)
        refine lv_aload_n hx hb dX6_gain_57 rfl (lv_at hl 2 rfl) ?_
        refine tc_takesBack hC hI hT ⟨Nat.le_of_ble_eq_true rfl, Nat.le_of_ble_eq_true rfl⟩ ⟨Nat.zero_le _, Nat.zero_le _⟩ hl.1 (Nat.le_of_ble_eq_true rfl) dX6_gain_58 (fun τ17 H locs hT hI => ?_)
        refine lv_iload hx hb dX6_gain_61 (lv_at hl 0 rfl) ?_
        refine lv_iload_n hx hb dX6_gain_63 rfl (lv_at hl 1 rfl) ?_
        refine lv_isub hx hb dX6_gain_64 ?_
        refine lv_i2l hx hb dX6_gain_65 rfl ?_
        exact hret _ _ _ _ _ _ hT hI dX6_gain_66
      · have hT := hT.2 hc
        refine lv_ldc2 hx hb hC.1.2.2.2.1 (hC.1.2.2.2.2 _ q2424) dX6_gain_24 ?_
        exact hret _ _ _ _ _ _ hT hI dX6_gain_27
set_option maxHeartbeats 4000000 in
set_option maxRecDepth 100000 in
theorem met_sumOf (l : Launch) (D : va_G) (dA : Nat → ClassId) (ad : Nat → Nat) (hJ : rgJ twL ad) (sz : Nat) (τ : Sto) (x1 : Int32) (K : Int32 → Sto → Prop) (hT : T_sumOf τ x1 K) : Met l yX6_sumOf (ws_ yX6_sumOf cX6_sumOf 5 (some .int)) ({ frames := 5, cells := 0, slots := 0, locals := 110 }) (va_Pc [.ref (ad 0), .int x1] (rgU D vwCl dA twL ad sz τ)) (va_Qi K (rgU D vwCl dA twL ad sz) (rgAd twL ad)) 0 0 (rgAd twL ad) := by
  refine tw_meti hJ (by decide) rfl (Nat.le_of_ble_eq_true rfl) ?_
  intro p e s m args below meth c Q hC hret hI ls hl
  have hx := hC.1.1
  have hb := hC.1.2.1
  have hl : lv_has ls 5 [(0, .ref (ad 0)), (1, .int x1)] := hl
  have w_7 : ∀ (x1 : Int32) (n : Nat) (x2 : Int32) (x3 : Int32) (x4 : Int32) (τ : Sto) (H : Heap) (locs : List Loc) (ls : Array Slot), T_sumOf_7 K x1 n x2 x3 x4 τ → tI D dA ad sz s.heap τ H locs → lv_has ls 5 [(0, .ref (ad 0)), (1, .int x1), (2, .int x2), (3, .int x3), (4, .int x4)] → W p l e ({ frames := 5, cells := 0, slots := 0, locals := 110 }) s m args below meth c H locs 0 0 Q (F0 m 7 ls []) := by
    intro x1 n
    induction n with
    | zero => intro x2 x3 x4 τ H locs ls hT; exact hT.elim
    | succ n ih =>
      intro x2 x3 x4 τ H locs ls hT hI hl
      unfold T_sumOf_7 at hT
      refine lv_iload hx hb dX6_sumOf_7 (lv_at hl 4 rfl) ?_
      refine lv_iload_n hx hb dX6_sumOf_9 rfl (lv_at hl 1 rfl) ?_
      refine lv_icmp_ge (tgt := 50) hx hb dX6_sumOf_10 (by decide) (fun hc => ?_) (fun hc => ?_)
      · have hT := hT.1 hc
        refine lv_iload_n hx hb dX6_sumOf_50 rfl (lv_at hl 3 rfl) ?_
        exact hret _ _ _ _ _ _ hT hI dX6_sumOf_51
      · have hT := hT.2 hc
        refine lv_iload_n hx hb dX6_sumOf_13 rfl (lv_at hl 2 rfl) ?_
        refine lv_aload_n hx hb dX6_sumOf_14 rfl (lv_at hl 0 rfl) ?_
        refine lv_aload_n hx hb dX6_sumOf_15 rfl (lv_at hl 0 rfl) ?_
        refine tg_61 hC hI dX6_sumOf_16 ?_
        refine lv_iload hx hb dX6_sumOf_19 (lv_at hl 4 rfl) ?_
        refine tw_iald hC hI tl_62 hT dX6_sumOf_21 (fun hT => ?_)
        refine lv_iconst (v := 0) hx hb dX6_sumOf_22 (by decide) ?_
        refine tc_hoursOf hC hI hT ⟨Nat.le_of_ble_eq_true rfl, Nat.le_of_ble_eq_true rfl⟩ ⟨Nat.zero_le _, Nat.zero_le _⟩ hl.1 (Nat.le_of_ble_eq_true rfl) dX6_sumOf_23 (fun r2 τ1 H locs hT hI => ?_)
        refine lv_iadd hx hb dX6_sumOf_26 ?_
        refine lv_istore_n (lv' := [(2, .int (x2 + r2)), (0, .ref (ad 0)), (1, .int x1), (3, .int x3), (4, .int x4)]) hx hb dX6_sumOf_27 rfl hl (Nat.le_of_ble_eq_true rfl) rfl (fun ls hl => ?_)
        refine lv_iload_n hx hb dX6_sumOf_28 rfl (lv_at hl 3 rfl) ?_
        refine lv_aload_n hx hb dX6_sumOf_29 rfl (lv_at hl 1 rfl) ?_
        refine lv_aload_n hx hb dX6_sumOf_30 rfl (lv_at hl 1 rfl) ?_
        refine tg_61 hC hI dX6_sumOf_31 ?_
        refine lv_iload hx hb dX6_sumOf_34 (lv_at hl 4 rfl) ?_
        refine tw_iald hC hI tl_62 hT dX6_sumOf_36 (fun hT => ?_)
        refine tc_useOf hC hI hT ⟨Nat.le_of_ble_eq_true rfl, Nat.le_of_ble_eq_true rfl⟩ ⟨Nat.zero_le _, Nat.zero_le _⟩ hl.1 (Nat.le_of_ble_eq_true rfl) dX6_sumOf_37 (fun r4 τ3 H locs hT hI => ?_)
        refine lv_iload_n hx hb dX6_sumOf_40 rfl (lv_at hl 0 rfl) ?_
        refine lv_imul hx hb dX6_sumOf_41 ?_
        refine lv_iadd hx hb dX6_sumOf_42 ?_
        refine lv_istore_n (lv' := [(3, .int (x3 + (r4 * (x2 + r2)))), (2, .int (x2 + r2)), (0, .ref (ad 0)), (1, .int x1), (4, .int x4)]) hx hb dX6_sumOf_43 rfl hl (Nat.le_of_ble_eq_true rfl) rfl (fun ls hl => ?_)
        refine lv_iinc (v := x4 + 1) (lv' := [(4, .int (x4 + 1)), (3, .int (x3 + (r4 * (x2 + r2)))), (2, .int (x2 + r2)), (0, .ref (ad 0)), (1, .int x1)]) hx hb dX6_sumOf_44 hl (k := 4) rfl rfl (Nat.le_of_ble_eq_true rfl) rfl (fun ls hl => ?_)
        refine lv_goto (tgt := 7) hx hb dX6_sumOf_47 (by decide) ?_
        exact ih (x2 + r2) (x3 + (r4 * (x2 + r2))) (x4 + 1) τ3 _ _ _ hT hI (lv_sub hl [3, 4, 2, 1, 0] rfl)
  unfold T_sumOf at hT
  refine lv_iconst (v := 0) hx hb dX6_sumOf_0 (by decide) ?_
  refine lv_istore_n (lv' := [(2, .int 0), (0, .ref (ad 0)), (1, .int x1)]) hx hb dX6_sumOf_1 rfl hl (Nat.le_of_ble_eq_true rfl) rfl (fun ls hl => ?_)
  refine lv_iconst (v := 0) hx hb dX6_sumOf_2 (by decide) ?_
  refine lv_istore_n (lv' := [(3, .int 0), (2, .int 0), (0, .ref (ad 0)), (1, .int x1)]) hx hb dX6_sumOf_3 rfl hl (Nat.le_of_ble_eq_true rfl) rfl (fun ls hl => ?_)
  refine lv_iconst (v := 0) hx hb dX6_sumOf_4 (by decide) ?_
  refine lv_istore (lv' := [(4, .int 0), (3, .int 0), (2, .int 0), (0, .ref (ad 0)), (1, .int x1)]) hx hb dX6_sumOf_5 hl (Nat.le_of_ble_eq_true rfl) rfl (fun ls hl => ?_)
  obtain ⟨n7, hT⟩ := hT
  exact w_7 x1 n7 0 0 0 τ _ _ _ hT hI (lv_sub hl [3, 4, 2, 1, 0] rfl)
theorem tc_sumOf {p : Program} {l : Launch} {e : Env} {R : Room} {s : State} {m : MethodId} {args : Array Value} {below : List Frame} {meth : Method} {c : Code} {H : Heap} {locs : List Loc} {cells slots : Nat} {Q : State → Prop} {cc : ByteArray} {nL : Nat} {D : va_G} {dA : Nat → ClassId} {ad : Nat → Nat} {τ : Sto} {pc sz : Nat} {ls : Array Slot} {rest : List Value} {H0 : Heap} {x1 : Int32} {K : Int32 → Sto → Prop} (hC : tC p m c cc nL s args D dA ad) (hI : tI D dA ad sz H0 τ H locs) (hT : T_sumOf τ x1 K) (hR : 5 + 1 ≤ R.frames ∧ 8 + (5 + 11) + 110 ≤ R.locals) (hf : cells ≤ R.cells ∧ slots ≤ R.slots) (hsz : ls.size = nL) (hroom : (rest.map fun v => v.category).sum ≤ 8) (hdg : decode cc pc = .ok (.invokevirtual 542, 3)) (kk : ∀ (r : Int32) (τ1 : Sto) (H1 : Heap) (locs1 : List Loc), K r τ1 → tI D dA ad sz H0 τ1 H1 locs1 → W p l e R s m args below meth c H1 locs1 cells slots Q (F0 m (pc + 3) ls (.int r :: rest))) : W p l e R s m args below meth c H locs cells slots Q (F0 m pc ls (.int x1 :: .ref (ad 0) :: rest)) :=
  rg_calli (rg_runV hC.1 hC.2.1 hI.1 hI.2.1 tl_0 rfl (met_sumOf l D dA ad hC.2.2 sz τ x1 K hT) (lw_V q2430 q2432 qs141 q170 q2433) 1 (by decide +kernel) ⟨rfl, rfl⟩ hR rfl hsz rfl hroom hf hdg) hI.2.2 (fun r τ1 H1 l1 hk hz hP hS => kk r τ1 H1 l1 hk ⟨hP, hz, hS⟩)
set_option maxHeartbeats 4000000 in
set_option maxRecDepth 100000 in
theorem met_isNextOrder (l : Launch) (D : va_G) (dA : Nat → ClassId) (ad : Nat → Nat) (hJ : rgJ twL ad) (sz : Nat) (τ : Sto) (x1 : Int32) (K : Int32 → Sto → Prop) (hT : T_isNextOrder τ x1 K) : Met l yX6_isNextOrder (ws_ yX6_isNextOrder cX6_isNextOrder 7 (some .boolean)) ({ frames := 1, cells := 0, slots := 0, locals := 12 }) (va_Pc [.ref (ad 0), .int x1] (rgU D vwCl dA twL ad sz τ)) (va_Qi K (rgU D vwCl dA twL ad sz) (rgAd twL ad)) 0 0 (rgAd twL ad) := by
  refine tw_metz hJ (by decide) rfl (Nat.le_of_ble_eq_true rfl) ?_
  intro p e s m args below meth c Q hC hret hI ls hl
  have hx := hC.1.1
  have hb := hC.1.2.1
  have hl : lv_has ls 7 [(0, .ref (ad 0)), (1, .int x1)] := hl
  have w_100 : ∀ (n : Nat) (x5 : Int32) (x6 : Int32) (τ : Sto) (H : Heap) (locs : List Loc) (ls : Array Slot), T_isNextOrder_100 K n x5 x6 τ → tI D dA ad sz s.heap τ H locs → lv_has ls 7 [(0, .ref (ad 0)), (5, .int x5), (6, .int x6)] → W p l e ({ frames := 1, cells := 0, slots := 0, locals := 12 }) s m args below meth c H locs 0 0 Q (F0 m 100 ls []) := by
    intro n
    induction n with
    | zero => intro x5 x6 τ H locs ls hT; exact hT.elim
    | succ n ih =>
      intro x5 x6 τ H locs ls hT hI hl
      unfold T_isNextOrder_100 at hT
      refine lv_iload hx hb dX6_isNextOrder_100 (lv_at hl 1 rfl) ?_
      refine lv_iload hx hb dX6_isNextOrder_102 (lv_at hl 2 rfl) ?_
      refine lv_icmp_ge (tgt := 148) hx hb dX6_isNextOrder_104 (by decide) (fun hc => ?_) (fun hc => ?_)
      · have hT := hT.1 hc
        refine lv_iconst (v := 1) hx hb dX6_isNextOrder_148 (by decide) ?_
        exact hret _ _ _ _ _ _ (by decide) hT hI dX6_isNextOrder_149
      · have hT := hT.2 hc
        refine lv_aload_n hx hb dX6_isNextOrder_107 rfl (lv_at hl 0 rfl) ?_
        refine tg_61 hC hI dX6_isNextOrder_108 ?_
        refine lv_iload hx hb dX6_isNextOrder_111 (lv_at hl 1 rfl) ?_
        refine tw_iald hC hI tl_62 hT dX6_isNextOrder_113 (fun hT => ?_)
        refine lv_istore (lv' := [(4, .int (τ.1 62 (Int32.toNatClampNeg x5))), (0, .ref (ad 0)), (5, .int x5), (6, .int x6)]) hx hb dX6_isNextOrder_114 hl (Nat.le_of_ble_eq_true rfl) rfl (fun ls hl => ?_)
        refine lv_aload_n hx hb dX6_isNextOrder_116 rfl (lv_at hl 1 rfl) ?_
        refine tg_61 hC hI dX6_isNextOrder_117 ?_
        refine lv_iload hx hb dX6_isNextOrder_120 (lv_at hl 2 rfl) ?_
        refine lv_aload_n hx hb dX6_isNextOrder_122 rfl (lv_at hl 1 rfl) ?_
        refine tg_61 hC hI dX6_isNextOrder_123 ?_
        refine lv_iload hx hb dX6_isNextOrder_126 (lv_at hl 3 rfl) ?_
        refine tw_iald hC hI tl_62 hT dX6_isNextOrder_128 (fun hT => ?_)
        refine tw_iast hC hI tl_62 hT dX6_isNextOrder_129 (fun τ1 H locs hT hI => ?_)
        refine lv_aload_n hx hb dX6_isNextOrder_130 rfl (lv_at hl 1 rfl) ?_
        refine tg_61 hC hI dX6_isNextOrder_131 ?_
        refine lv_iload hx hb dX6_isNextOrder_134 (lv_at hl 3 rfl) ?_
        refine lv_iload hx hb dX6_isNextOrder_136 (lv_at hl 0 rfl) ?_
        refine tw_iast hC hI tl_62 hT dX6_isNextOrder_138 (fun τ2 H locs hT hI => ?_)
        refine lv_iinc (v := x5 + 1) (lv' := [(5, .int (x5 + 1)), (4, .int (τ.1 62 (Int32.toNatClampNeg x5))), (0, .ref (ad 0)), (6, .int x6)]) hx hb dX6_isNextOrder_139 hl (k := 2) rfl rfl (Nat.le_of_ble_eq_true rfl) rfl (fun ls hl => ?_)
        refine lv_iinc (v := x6 + (-1)) (lv' := [(6, .int (x6 + (-1))), (5, .int (x5 + 1)), (4, .int (τ.1 62 (Int32.toNatClampNeg x5))), (0, .ref (ad 0))]) hx hb dX6_isNextOrder_142 hl (k := 3) rfl rfl (Nat.le_of_ble_eq_true rfl) rfl (fun ls hl => ?_)
        refine lv_goto (tgt := 100) hx hb dX6_isNextOrder_145 (by decide) ?_
        exact ih (x5 + 1) (x6 + (-1)) τ2 _ _ _ hT hI (lv_sub hl [3, 1, 0] rfl)
  have w_41 : ∀ (x1 : Int32) (x2 : Int32) (n : Nat) (x3 : Int32) (τ : Sto) (H : Heap) (locs : List Loc) (ls : Array Slot), T_isNextOrder_41 K x1 x2 n x3 τ → tI D dA ad sz s.heap τ H locs → lv_has ls 7 [(0, .ref (ad 0)), (1, .int x1), (2, .int x2), (3, .int x3)] → W p l e ({ frames := 1, cells := 0, slots := 0, locals := 12 }) s m args below meth c H locs 0 0 Q (F0 m 41 ls []) := by
    intro x1 x2 n
    induction n with
    | zero => intro x3 τ H locs ls hT; exact hT.elim
    | succ n ih =>
      intro x3 τ H locs ls hT hI hl
      unfold T_isNextOrder_41 at hT
      refine lv_aload_n hx hb dX6_isNextOrder_41 rfl (lv_at hl 0 rfl) ?_
      refine tg_61 hC hI dX6_isNextOrder_42 ?_
      refine lv_iload_n hx hb dX6_isNextOrder_45 rfl (lv_at hl 3 rfl) ?_
      refine tw_iald hC hI tl_62 hT dX6_isNextOrder_46 (fun hT => ?_)
      refine lv_aload_n hx hb dX6_isNextOrder_47 rfl (lv_at hl 0 rfl) ?_
      refine tg_61 hC hI dX6_isNextOrder_48 ?_
      refine lv_iload_n hx hb dX6_isNextOrder_51 rfl (lv_at hl 2 rfl) ?_
      refine tw_iald hC hI tl_62 hT dX6_isNextOrder_52 (fun hT => ?_)
      refine lv_icmp_ge (tgt := 62) hx hb dX6_isNextOrder_53 (by decide) (fun hc => ?_) (fun hc => ?_)
      · have hT := hT.1 hc
        refine lv_aload_n hx hb dX6_isNextOrder_62 rfl (lv_at hl 0 rfl) ?_
        refine tg_61 hC hI dX6_isNextOrder_63 ?_
        refine lv_iload_n hx hb dX6_isNextOrder_66 rfl (lv_at hl 2 rfl) ?_
        refine tw_iald hC hI tl_62 hT dX6_isNextOrder_67 (fun hT => ?_)
        refine lv_istore (lv' := [(4, .int (τ.1 62 (Int32.toNatClampNeg x2))), (0, .ref (ad 0)), (1, .int x1), (2, .int x2), (3, .int x3)]) hx hb dX6_isNextOrder_68 hl (Nat.le_of_ble_eq_true rfl) rfl (fun ls hl => ?_)
        refine lv_aload_n hx hb dX6_isNextOrder_70 rfl (lv_at hl 1 rfl) ?_
        refine tg_61 hC hI dX6_isNextOrder_71 ?_
        refine lv_iload_n hx hb dX6_isNextOrder_74 rfl (lv_at hl 3 rfl) ?_
        refine lv_aload_n hx hb dX6_isNextOrder_75 rfl (lv_at hl 1 rfl) ?_
        refine tg_61 hC hI dX6_isNextOrder_76 ?_
        refine lv_iload_n hx hb dX6_isNextOrder_79 rfl (lv_at hl 4 rfl) ?_
        refine tw_iald hC hI tl_62 hT dX6_isNextOrder_80 (fun hT => ?_)
        refine tw_iast hC hI tl_62 hT dX6_isNextOrder_81 (fun τ3 H locs hT hI => ?_)
        refine lv_aload_n hx hb dX6_isNextOrder_82 rfl (lv_at hl 1 rfl) ?_
        refine tg_61 hC hI dX6_isNextOrder_83 ?_
        refine lv_iload_n hx hb dX6_isNextOrder_86 rfl (lv_at hl 4 rfl) ?_
        refine lv_iload hx hb dX6_isNextOrder_87 (lv_at hl 0 rfl) ?_
        refine tw_iast hC hI tl_62 hT dX6_isNextOrder_89 (fun τ4 H locs hT hI => ?_)
        refine lv_iload_n hx hb dX6_isNextOrder_90 rfl (lv_at hl 3 rfl) ?_
        refine lv_iconst (v := 1) hx hb dX6_isNextOrder_91 (by decide) ?_
        refine lv_iadd hx hb dX6_isNextOrder_92 ?_
        refine lv_istore (lv' := [(5, .int (x2 + 1)), (4, .int (τ.1 62 (Int32.toNatClampNeg x2))), (0, .ref (ad 0)), (1, .int x1), (2, .int x2), (3, .int x3)]) hx hb dX6_isNextOrder_93 hl (Nat.le_of_ble_eq_true rfl) rfl (fun ls hl => ?_)
        refine lv_iload_n hx hb dX6_isNextOrder_95 rfl (lv_at hl 3 rfl) ?_
        refine lv_iconst (v := 1) hx hb dX6_isNextOrder_96 (by decide) ?_
        refine lv_isub hx hb dX6_isNextOrder_97 ?_
        refine lv_istore (lv' := [(6, .int (x1 - 1)), (5, .int (x2 + 1)), (4, .int (τ.1 62 (Int32.toNatClampNeg x2))), (0, .ref (ad 0)), (1, .int x1), (2, .int x2), (3, .int x3)]) hx hb dX6_isNextOrder_98 hl (Nat.le_of_ble_eq_true rfl) rfl (fun ls hl => ?_)
        obtain ⟨n100, hT⟩ := hT
        exact w_100 n100 (x2 + 1) (x1 - 1) τ4 _ _ _ hT hI (lv_sub hl [3, 1, 0] rfl)
      · have hT := hT.2 hc
        refine lv_iinc (v := x3 + (-1)) (lv' := [(3, .int (x3 + (-1))), (0, .ref (ad 0)), (1, .int x1), (2, .int x2)]) hx hb dX6_isNextOrder_56 hl (k := 3) rfl rfl (Nat.le_of_ble_eq_true rfl) rfl (fun ls hl => ?_)
        refine lv_goto (tgt := 41) hx hb dX6_isNextOrder_59 (by decide) ?_
        exact ih (x3 + (-1)) τ _ _ _ hT hI (lv_sub hl [1, 2, 3, 0] rfl)
  have w_4 : ∀ (x1 : Int32) (n : Nat) (x2 : Int32) (τ : Sto) (H : Heap) (locs : List Loc) (ls : Array Slot), T_isNextOrder_4 K x1 n x2 τ → tI D dA ad sz s.heap τ H locs → lv_has ls 7 [(0, .ref (ad 0)), (1, .int x1), (2, .int x2)] → W p l e ({ frames := 1, cells := 0, slots := 0, locals := 12 }) s m args below meth c H locs 0 0 Q (F0 m 4 ls []) := by
    intro x1 n
    induction n with
    | zero => intro x2 τ H locs ls hT; exact hT.elim
    | succ n ih =>
      intro x2 τ H locs ls hT hI hl
      unfold T_isNextOrder_4 at hT
      refine lv_iload_n hx hb dX6_isNextOrder_4 rfl (lv_at hl 2 rfl) ?_
      refine lv_if_lt (tgt := 31) hx hb dX6_isNextOrder_5 (by decide) (fun hc => ?_) (fun hc => ?_)
      · have hT := hT.1 hc
        refine lv_iload_n hx hb dX6_isNextOrder_31 rfl (lv_at hl 2 rfl) ?_
        refine lv_if_ge (tgt := 37) hx hb dX6_isNextOrder_32 (by decide) (fun hc => ?_) (fun hc => ?_)
        · have hT := hT.1 hc
          refine lv_iload_n hx hb dX6_isNextOrder_37 rfl (lv_at hl 1 rfl) ?_
          refine lv_iconst (v := 1) hx hb dX6_isNextOrder_38 (by decide) ?_
          refine lv_isub hx hb dX6_isNextOrder_39 ?_
          refine lv_istore_n (lv' := [(3, .int (x1 - 1)), (0, .ref (ad 0)), (1, .int x1), (2, .int x2)]) hx hb dX6_isNextOrder_40 rfl hl (Nat.le_of_ble_eq_true rfl) rfl (fun ls hl => ?_)
          obtain ⟨n41, hT⟩ := hT
          exact w_41 x1 x2 n41 (x1 - 1) τ _ _ _ hT hI (lv_sub hl [1, 2, 3, 0] rfl)
        · have hT := hT.2 hc
          refine lv_iconst (v := 0) hx hb dX6_isNextOrder_35 (by decide) ?_
          exact hret _ _ _ _ _ _ (by decide) hT hI dX6_isNextOrder_36
      · have hT := hT.2 hc
        refine lv_aload_n hx hb dX6_isNextOrder_8 rfl (lv_at hl 0 rfl) ?_
        refine tg_61 hC hI dX6_isNextOrder_9 ?_
        refine lv_iload_n hx hb dX6_isNextOrder_12 rfl (lv_at hl 2 rfl) ?_
        refine tw_iald hC hI tl_62 hT dX6_isNextOrder_13 (fun hT => ?_)
        refine lv_aload_n hx hb dX6_isNextOrder_14 rfl (lv_at hl 0 rfl) ?_
        refine tg_61 hC hI dX6_isNextOrder_15 ?_
        refine lv_iload_n hx hb dX6_isNextOrder_18 rfl (lv_at hl 2 rfl) ?_
        refine lv_iconst (v := 1) hx hb dX6_isNextOrder_19 (by decide) ?_
        refine lv_iadd hx hb dX6_isNextOrder_20 ?_
        refine tw_iald hC hI tl_62 hT dX6_isNextOrder_21 (fun hT => ?_)
        refine lv_icmp_le (tgt := 31) hx hb dX6_isNextOrder_22 (by decide) (fun hc => ?_) (fun hc => ?_)
        · have hT := hT.1 hc
          refine lv_iload_n hx hb dX6_isNextOrder_31 rfl (lv_at hl 2 rfl) ?_
          refine lv_if_ge (tgt := 37) hx hb dX6_isNextOrder_32 (by decide) (fun hc => ?_) (fun hc => ?_)
          · have hT := hT.1 hc
            refine lv_iload_n hx hb dX6_isNextOrder_37 rfl (lv_at hl 1 rfl) ?_
            refine lv_iconst (v := 1) hx hb dX6_isNextOrder_38 (by decide) ?_
            refine lv_isub hx hb dX6_isNextOrder_39 ?_
            refine lv_istore_n (lv' := [(3, .int (x1 - 1)), (0, .ref (ad 0)), (1, .int x1), (2, .int x2)]) hx hb dX6_isNextOrder_40 rfl hl (Nat.le_of_ble_eq_true rfl) rfl (fun ls hl => ?_)
            obtain ⟨n41, hT⟩ := hT
            exact w_41 x1 x2 n41 (x1 - 1) τ _ _ _ hT hI (lv_sub hl [1, 2, 3, 0] rfl)
          · have hT := hT.2 hc
            refine lv_iconst (v := 0) hx hb dX6_isNextOrder_35 (by decide) ?_
            exact hret _ _ _ _ _ _ (by decide) hT hI dX6_isNextOrder_36
        · have hT := hT.2 hc
          refine lv_iinc (v := x2 + (-1)) (lv' := [(2, .int (x2 + (-1))), (0, .ref (ad 0)), (1, .int x1)]) hx hb dX6_isNextOrder_25 hl (k := 2) rfl rfl (Nat.le_of_ble_eq_true rfl) rfl (fun ls hl => ?_)
          refine lv_goto (tgt := 4) hx hb dX6_isNextOrder_28 (by decide) ?_
          exact ih (x2 + (-1)) τ _ _ _ hT hI (lv_sub hl [1, 2, 0] rfl)
  unfold T_isNextOrder at hT
  refine lv_iload_n hx hb dX6_isNextOrder_0 rfl (lv_at hl 1 rfl) ?_
  refine lv_iconst (v := 2) hx hb dX6_isNextOrder_1 (by decide) ?_
  refine lv_isub hx hb dX6_isNextOrder_2 ?_
  refine lv_istore_n (lv' := [(2, .int (x1 - 2)), (0, .ref (ad 0)), (1, .int x1)]) hx hb dX6_isNextOrder_3 rfl hl (Nat.le_of_ble_eq_true rfl) rfl (fun ls hl => ?_)
  obtain ⟨n4, hT⟩ := hT
  exact w_4 x1 n4 (x1 - 2) τ _ _ _ hT hI (lv_sub hl [1, 2, 0] rfl)
theorem tc_isNextOrder {p : Program} {l : Launch} {e : Env} {R : Room} {s : State} {m : MethodId} {args : Array Value} {below : List Frame} {meth : Method} {c : Code} {H : Heap} {locs : List Loc} {cells slots : Nat} {Q : State → Prop} {cc : ByteArray} {nL : Nat} {D : va_G} {dA : Nat → ClassId} {ad : Nat → Nat} {τ : Sto} {pc sz : Nat} {ls : Array Slot} {rest : List Value} {H0 : Heap} {x1 : Int32} {K : Int32 → Sto → Prop} (hC : tC p m c cc nL s args D dA ad) (hI : tI D dA ad sz H0 τ H locs) (hT : T_isNextOrder τ x1 K) (hR : 1 + 1 ≤ R.frames ∧ 8 + (7 + 11) + 12 ≤ R.locals) (hf : cells ≤ R.cells ∧ slots ≤ R.slots) (hsz : ls.size = nL) (hroom : (rest.map fun v => v.category).sum ≤ 8) (hdg : decode cc pc = .ok (.invokevirtual 545, 3)) (kk : ∀ (r : Int32) (τ1 : Sto) (H1 : Heap) (locs1 : List Loc), K r τ1 → tI D dA ad sz H0 τ1 H1 locs1 → W p l e R s m args below meth c H1 locs1 cells slots Q (F0 m (pc + 3) ls (.int r :: rest))) : W p l e R s m args below meth c H locs cells slots Q (F0 m pc ls (.int x1 :: .ref (ad 0) :: rest)) :=
  rg_calli (rg_runV hC.1 hC.2.1 hI.1 hI.2.1 tl_0 rfl (met_isNextOrder l D dA ad hC.2.2 sz τ x1 K hT) (lw_V q2434 q2436 qs142 q170 q2437) 1 (by decide +kernel) ⟨rfl, rfl⟩ hR rfl hsz rfl hroom hf hdg) hI.2.2 (fun r τ1 H1 l1 hk hz hP hS => kk r τ1 H1 l1 hk ⟨hP, hz, hS⟩)
set_option maxHeartbeats 4000000 in
set_option maxRecDepth 100000 in
theorem met_row (l : Launch) (D : va_G) (dA : Nat → ClassId) (ad : Nat → Nat) (hJ : rgJ twL ad) (sz : Nat) (τ : Sto) (x1 : Int32) (K : Int32 → Sto → Prop) (hT : T_row τ x1 K) : Met l yX6_row (ws_ yX6_row cX6_row 8 (some .int)) ({ frames := 6, cells := 0, slots := 0, locals := 134 }) (va_Pc [.ref (ad 0), .int x1] (rgU D vwCl dA twL ad sz τ)) (va_Qi K (rgU D vwCl dA twL ad sz) (rgAd twL ad)) 0 0 (rgAd twL ad) := by
  refine tw_meti hJ (by decide) rfl (Nat.le_of_ble_eq_true rfl) ?_
  intro p e s m args below meth c Q hC hret hI ls hl
  have hx := hC.1.1
  have hb := hC.1.2.1
  have hl : lv_has ls 8 [(0, .ref (ad 0)), (1, .int x1)] := hl
  have w_117 : ∀ (x1 : Int32) (x2 : Int32) (k85 : Int32 → Int32 → Sto → Prop), (∀ (x4 : Int32) (x5 : Int32) (τ : Sto) (H : Heap) (locs : List Loc) (ls : Array Slot), k85 x4 x5 τ → tI D dA ad sz s.heap τ H locs → lv_has ls 8 [(0, .ref (ad 0)), (1, .int x1), (2, .int x2), (4, .int x4), (5, .int x5)] → W p l e ({ frames := 6, cells := 0, slots := 0, locals := 134 }) s m args below meth c H locs 0 0 Q (F0 m 85 ls [])) → ∀ (x4 : Int32) (n : Nat) (x7 : Int32) (τ : Sto) (H : Heap) (locs : List Loc) (ls : Array Slot), T_row_117 K k85 x1 x2 x4 n x7 τ → tI D dA ad sz s.heap τ H locs → lv_has ls 8 [(0, .ref (ad 0)), (1, .int x1), (2, .int x2), (4, .int x4), (7, .int x7)] → W p l e ({ frames := 6, cells := 0, slots := 0, locals := 134 }) s m args below meth c H locs 0 0 Q (F0 m 117 ls []) := by
    intro x1 x2 k85 hk85 x4 n
    induction n with
    | zero => intro x7 τ H locs ls hT; exact hT.elim
    | succ n ih =>
      intro x7 τ H locs ls hT hI hl
      unfold T_row_117 at hT
      refine lv_iload hx hb dX6_row_117 (lv_at hl 4 rfl) ?_
      refine lv_iload_n hx hb dX6_row_119 rfl (lv_at hl 2 rfl) ?_
      refine lv_icmp_ge (tgt := 143) hx hb dX6_row_120 (by decide) (fun hc => ?_) (fun hc => ?_)
      · have hT := hT.1 hc
        refine lv_aload_n hx hb dX6_row_143 rfl (lv_at hl 0 rfl) ?_
        refine lv_iload_n hx hb dX6_row_144 rfl (lv_at hl 2 rfl) ?_
        refine tc_isNextOrder hC hI hT ⟨Nat.le_of_ble_eq_true rfl, Nat.le_of_ble_eq_true rfl⟩ ⟨Nat.zero_le _, Nat.zero_le _⟩ hl.1 (Nat.le_of_ble_eq_true rfl) dX6_row_145 (fun r2 τ1 H locs hT hI => ?_)
        refine lv_istore (lv' := [(5, .int r2), (0, .ref (ad 0)), (1, .int x1), (2, .int x2), (4, .int x4), (7, .int x7)]) hx hb dX6_row_148 hl (Nat.le_of_ble_eq_true rfl) rfl (fun ls hl => ?_)
        refine lv_goto (tgt := 85) hx hb dX6_row_150 (by decide) ?_
        exact hk85 x4 r2 τ1 _ _ _ hT hI (lv_sub hl [1, 2, 3, 4, 0] rfl)
      · have hT := hT.2 hc
        refine lv_aload_n hx hb dX6_row_123 rfl (lv_at hl 0 rfl) ?_
        refine tg_62 hC hI dX6_row_124 ?_
        refine lv_iload hx hb dX6_row_127 (lv_at hl 4 rfl) ?_
        refine lv_aload_n hx hb dX6_row_129 rfl (lv_at hl 0 rfl) ?_
        refine tg_61 hC hI dX6_row_130 ?_
        refine lv_iload hx hb dX6_row_133 (lv_at hl 4 rfl) ?_
        refine tw_iald hC hI tl_62 hT dX6_row_135 (fun hT => ?_)
        refine tw_iast hC hI tl_63 hT dX6_row_136 (fun τ3 H locs hT hI => ?_)
        refine lv_iinc (v := x7 + 1) (lv' := [(7, .int (x7 + 1)), (0, .ref (ad 0)), (1, .int x1), (2, .int x2), (4, .int x4)]) hx hb dX6_row_137 hl (k := 4) rfl rfl (Nat.le_of_ble_eq_true rfl) rfl (fun ls hl => ?_)
        refine lv_goto (tgt := 117) hx hb dX6_row_140 (by decide) ?_
        exact ih (x7 + 1) τ3 _ _ _ hT hI (lv_sub hl [1, 2, 3, 4, 0] rfl)
  have w_85 : ∀ (x1 : Int32) (x2 : Int32) (n : Nat) (x4 : Int32) (x5 : Int32) (τ : Sto) (H : Heap) (locs : List Loc) (ls : Array Slot), T_row_85 K x1 x2 n x4 x5 τ → tI D dA ad sz s.heap τ H locs → lv_has ls 8 [(0, .ref (ad 0)), (1, .int x1), (2, .int x2), (4, .int x4), (5, .int x5)] → W p l e ({ frames := 6, cells := 0, slots := 0, locals := 134 }) s m args below meth c H locs 0 0 Q (F0 m 85 ls []) := by
    intro x1 x2 n
    induction n with
    | zero => intro x4 x5 τ H locs ls hT; exact hT.elim
    | succ n ih =>
      intro x4 x5 τ H locs ls hT hI hl
      unfold T_row_85 at hT
      refine lv_iload hx hb dX6_row_85 (lv_at hl 4 rfl) ?_
      refine lv_if_eq (tgt := 153) hx hb dX6_row_87 (by decide) (fun hc => ?_) (fun hc => ?_)
      · have hT := hT.1 hc
        refine lv_iload_n hx hb dX6_row_153 rfl (lv_at hl 1 rfl) ?_
        refine lv_iconst (v := -1) hx hb dX6_row_154 (by decide) ?_
        refine lv_icmp_ne (tgt := 163) hx hb dX6_row_155 (by decide) (fun hc => ?_) (fun hc => ?_)
        · have hT := hT.1 hc
          refine lv_aload_n hx hb dX6_row_163 rfl (lv_at hl 0 rfl) ?_
          refine tg_62 hC hI dX6_row_164 ?_
          refine lv_iload_n hx hb dX6_row_167 rfl (lv_at hl 1 rfl) ?_
          refine tw_iald hC hI tl_63 hT dX6_row_168 (fun hT => ?_)
          exact hret _ _ _ _ _ _ hT hI dX6_row_169
        · have hT := hT.2 hc
          refine lv_iload hx hb dX6_row_158 (lv_at hl 3 rfl) ?_
          refine lv_goto (tgt := 169) hx hb dX6_row_160 (by decide) ?_
          exact hret _ _ _ _ _ _ hT hI dX6_row_169
      · have hT := hT.2 hc
        refine lv_aload_n hx hb dX6_row_90 rfl (lv_at hl 0 rfl) ?_
        refine lv_iload_n hx hb dX6_row_91 rfl (lv_at hl 2 rfl) ?_
        refine tc_sumOf hC hI hT ⟨Nat.le_of_ble_eq_true rfl, Nat.le_of_ble_eq_true rfl⟩ ⟨Nat.zero_le _, Nat.zero_le _⟩ hl.1 (Nat.le_of_ble_eq_true rfl) dX6_row_92 (fun r5 τ4 H locs hT hI => ?_)
        refine lv_istore (lv' := [(6, .int r5), (0, .ref (ad 0)), (1, .int x1), (2, .int x2), (4, .int x4), (5, .int x5)]) hx hb dX6_row_95 hl (Nat.le_of_ble_eq_true rfl) rfl (fun ls hl => ?_)
        refine lv_iload hx hb dX6_row_97 (lv_at hl 4 rfl) ?_
        refine lv_iconst (v := -1) hx hb dX6_row_99 (by decide) ?_
        refine lv_icmp_eq (tgt := 110) hx hb dX6_row_100 (by decide) (fun hc => ?_) (fun hc => ?_)
        · have hT := hT.1 hc
          refine lv_iload hx hb dX6_row_110 (lv_at hl 0 rfl) ?_
          refine lv_istore (lv' := [(4, .int r5), (6, .int r5), (0, .ref (ad 0)), (1, .int x1), (2, .int x2), (5, .int x5)]) hx hb dX6_row_112 hl (Nat.le_of_ble_eq_true rfl) rfl (fun ls hl => ?_)
          refine lv_iconst (v := 0) hx hb dX6_row_114 (by decide) ?_
          refine lv_istore (lv' := [(7, .int 0), (4, .int r5), (6, .int r5), (0, .ref (ad 0)), (1, .int x1), (2, .int x2), (5, .int x5)]) hx hb dX6_row_115 hl (Nat.le_of_ble_eq_true rfl) rfl (fun ls hl => ?_)
          obtain ⟨n117, hT⟩ := hT
          exact w_117 x1 x2 (T_row_85 K x1 x2 n) (ih) r5 n117 0 τ4 _ _ _ hT hI (lv_sub hl [3, 4, 5, 1, 0] rfl)
        · have hT := hT.2 hc
          refine lv_iload hx hb dX6_row_103 (lv_at hl 0 rfl) ?_
          refine lv_iload hx hb dX6_row_105 (lv_at hl 4 rfl) ?_
          refine lv_icmp_ge (tgt := 143) hx hb dX6_row_107 (by decide) (fun hc => ?_) (fun hc => ?_)
          · have hT := hT.1 hc
            refine lv_aload_n hx hb dX6_row_143 rfl (lv_at hl 1 rfl) ?_
            refine lv_iload_n hx hb dX6_row_144 rfl (lv_at hl 3 rfl) ?_
            refine tc_isNextOrder hC hI hT ⟨Nat.le_of_ble_eq_true rfl, Nat.le_of_ble_eq_true rfl⟩ ⟨Nat.zero_le _, Nat.zero_le _⟩ hl.1 (Nat.le_of_ble_eq_true rfl) dX6_row_145 (fun r7 τ6 H locs hT hI => ?_)
            refine lv_istore (lv' := [(5, .int r7), (6, .int r5), (0, .ref (ad 0)), (1, .int x1), (2, .int x2), (4, .int x4)]) hx hb dX6_row_148 hl (Nat.le_of_ble_eq_true rfl) rfl (fun ls hl => ?_)
            refine lv_goto (tgt := 85) hx hb dX6_row_150 (by decide) ?_
            exact ih x4 r7 τ6 _ _ _ hT hI (lv_sub hl [2, 3, 4, 5, 0] rfl)
          · have hT := hT.2 hc
            refine lv_iload hx hb dX6_row_110 (lv_at hl 0 rfl) ?_
            refine lv_istore (lv' := [(4, .int r5), (6, .int r5), (0, .ref (ad 0)), (1, .int x1), (2, .int x2), (5, .int x5)]) hx hb dX6_row_112 hl (Nat.le_of_ble_eq_true rfl) rfl (fun ls hl => ?_)
            refine lv_iconst (v := 0) hx hb dX6_row_114 (by decide) ?_
            refine lv_istore (lv' := [(7, .int 0), (4, .int r5), (6, .int r5), (0, .ref (ad 0)), (1, .int x1), (2, .int x2), (5, .int x5)]) hx hb dX6_row_115 hl (Nat.le_of_ble_eq_true rfl) rfl (fun ls hl => ?_)
            obtain ⟨n117, hT⟩ := hT
            exact w_117 x1 x2 (T_row_85 K x1 x2 n) (ih) r5 n117 0 τ4 _ _ _ hT hI (lv_sub hl [3, 4, 5, 1, 0] rfl)
  have w_44 : ∀ (x1 : Int32) (x2 : Int32) (n : Nat) (x3 : Int32) (x4 : Int32) (τ : Sto) (H : Heap) (locs : List Loc) (ls : Array Slot), T_row_44 K x1 x2 n x3 x4 τ → tI D dA ad sz s.heap τ H locs → lv_has ls 8 [(0, .ref (ad 0)), (1, .int x1), (2, .int x2), (3, .int x3), (4, .int x4)] → W p l e ({ frames := 6, cells := 0, slots := 0, locals := 134 }) s m args below meth c H locs 0 0 Q (F0 m 44 ls []) := by
    intro x1 x2 n
    induction n with
    | zero => intro x3 x4 τ H locs ls hT; exact hT.elim
    | succ n ih =>
      intro x3 x4 τ H locs ls hT hI hl
      unfold T_row_44 at hT
      refine lv_iload hx hb dX6_row_44 (lv_at hl 4 rfl) ?_
      refine lv_aload_n hx hb dX6_row_46 rfl (lv_at hl 0 rfl) ?_
      refine tc_thingMany hC hI hT ⟨Nat.le_of_ble_eq_true rfl, Nat.le_of_ble_eq_true rfl⟩ ⟨Nat.zero_le _, Nat.zero_le _⟩ hl.1 (Nat.le_of_ble_eq_true rfl) dX6_row_47 (fun r9 τ8 H locs hT hI => ?_)
      refine lv_icmp_ge (tgt := 79) hx hb dX6_row_50 (by decide) (fun hc => ?_) (fun hc => ?_)
      · have hT := hT.1 hc
        refine lv_iconst (v := -1) hx hb dX6_row_79 (by decide) ?_
        refine lv_istore (lv' := [(4, .int (-1)), (0, .ref (ad 0)), (1, .int x1), (2, .int x2), (3, .int x3)]) hx hb dX6_row_80 hl (Nat.le_of_ble_eq_true rfl) rfl (fun ls hl => ?_)
        refine lv_iconst (v := 1) hx hb dX6_row_82 (by decide) ?_
        refine lv_istore (lv' := [(5, .int 1), (4, .int (-1)), (0, .ref (ad 0)), (1, .int x1), (2, .int x2), (3, .int x3)]) hx hb dX6_row_83 hl (Nat.le_of_ble_eq_true rfl) rfl (fun ls hl => ?_)
        obtain ⟨n85, hT⟩ := hT
        exact w_85 x1 x2 n85 (-1) 1 τ8 _ _ _ hT hI (lv_sub hl [2, 3, 4, 1, 0] rfl)
      · have hT := hT.2 hc
        refine lv_aload_n hx hb dX6_row_53 rfl (lv_at hl 0 rfl) ?_
        refine lv_iload hx hb dX6_row_54 (lv_at hl 4 rfl) ?_
        refine tc_isBroken hC hI hT ⟨Nat.le_of_ble_eq_true rfl, Nat.le_of_ble_eq_true rfl⟩ ⟨Nat.zero_le _, Nat.zero_le _⟩ hl.1 (Nat.le_of_ble_eq_true rfl) dX6_row_56 (fun r11 τ10 H locs hT hI => ?_)
        refine lv_if_eq (tgt := 73) hx hb dX6_row_59 (by decide) (fun hc => ?_) (fun hc => ?_)
        · have hT := hT.1 hc
          refine lv_iinc (v := x4 + 1) (lv' := [(4, .int (x4 + 1)), (0, .ref (ad 0)), (1, .int x1), (2, .int x2), (3, .int x3)]) hx hb dX6_row_73 hl (k := 4) rfl rfl (Nat.le_of_ble_eq_true rfl) rfl (fun ls hl => ?_)
          refine lv_goto (tgt := 44) hx hb dX6_row_76 (by decide) ?_
          exact ih x3 (x4 + 1) τ10 _ _ _ hT hI (lv_sub hl [1, 2, 3, 4, 0] rfl)
        · have hT := hT.2 hc
          refine lv_aload_n hx hb dX6_row_62 rfl (lv_at hl 0 rfl) ?_
          refine tg_61 hC hI dX6_row_63 ?_
          refine lv_iload_n hx hb dX6_row_66 rfl (lv_at hl 3 rfl) ?_
          refine lv_iload hx hb dX6_row_67 (lv_at hl 4 rfl) ?_
          refine tw_iast hC hI tl_62 hT dX6_row_69 (fun τ12 H locs hT hI => ?_)
          refine lv_iinc (v := x3 + 1) (lv' := [(3, .int (x3 + 1)), (0, .ref (ad 0)), (1, .int x1), (2, .int x2), (4, .int x4)]) hx hb dX6_row_70 hl (k := 3) rfl rfl (Nat.le_of_ble_eq_true rfl) rfl (fun ls hl => ?_)
          refine lv_iinc (v := x4 + 1) (lv' := [(4, .int (x4 + 1)), (3, .int (x3 + 1)), (0, .ref (ad 0)), (1, .int x1), (2, .int x2)]) hx hb dX6_row_73 hl (k := 4) rfl rfl (Nat.le_of_ble_eq_true rfl) rfl (fun ls hl => ?_)
          refine lv_goto (tgt := 44) hx hb dX6_row_76 (by decide) ?_
          exact ih (x3 + 1) (x4 + 1) τ12 _ _ _ hT hI (lv_sub hl [2, 3, 4, 1, 0] rfl)
  unfold T_row at hT
  refine lv_aload_n hx hb dX6_row_0 rfl (lv_at hl 0 rfl) ?_
  refine lv_iconst (v := 1) hx hb dX6_row_1 (by decide) ?_
  refine tc_setOf hC hI hT ⟨Nat.le_of_ble_eq_true rfl, Nat.le_of_ble_eq_true rfl⟩ ⟨Nat.zero_le _, Nat.zero_le _⟩ hl.1 (Nat.le_of_ble_eq_true rfl) dX6_row_2 (fun r14 τ13 H locs hT hI => ?_)
  refine tc_bits hC hI hT ⟨Nat.le_of_ble_eq_true rfl, Nat.le_of_ble_eq_true rfl⟩ ⟨Nat.zero_le _, Nat.zero_le _⟩ hl.1 (Nat.le_of_ble_eq_true rfl) dX6_row_5 (fun r16 τ15 H locs hT hI => ?_)
  refine lv_istore_n (lv' := [(2, .int r16), (0, .ref (ad 0)), (1, .int x1)]) hx hb dX6_row_8 rfl hl (Nat.le_of_ble_eq_true rfl) rfl (fun ls hl => ?_)
  refine lv_iload_n hx hb dX6_row_9 rfl (lv_at hl 0 rfl) ?_
  refine lv_bipush (v := 6) hx hb dX6_row_10 (by decide) ?_
  refine lv_icmp_gt (tgt := 37) hx hb dX6_row_12 (by decide) (fun hc => ?_) (fun hc => ?_)
  · have hT := hT.1 hc
    refine lv_iconst (v := -1) hx hb dX6_row_37 (by decide) ?_
    exact hret _ _ _ _ _ _ hT hI dX6_row_38
  · have hT := hT.2 hc
    refine lv_aload_n hx hb dX6_row_15 rfl (lv_at hl 1 rfl) ?_
    refine tc_menderMany hC hI hT ⟨Nat.le_of_ble_eq_true rfl, Nat.le_of_ble_eq_true rfl⟩ ⟨Nat.zero_le _, Nat.zero_le _⟩ hl.1 (Nat.le_of_ble_eq_true rfl) dX6_row_16 (fun r18 τ17 H locs hT hI => ?_)
    refine lv_if_eq (tgt := 37) hx hb dX6_row_19 (by decide) (fun hc => ?_) (fun hc => ?_)
    · have hT := hT.1 hc
      refine lv_iconst (v := -1) hx hb dX6_row_37 (by decide) ?_
      exact hret _ _ _ _ _ _ hT hI dX6_row_38
    · have hT := hT.2 hc
      refine lv_iload_n hx hb dX6_row_22 rfl (lv_at hl 2 rfl) ?_
      refine lv_i2l hx hb dX6_row_23 rfl ?_
      refine lv_ldc2 hx hb hC.1.2.2.2.1 (hC.1.2.2.2.2 _ q2429) dX6_row_24 ?_
      refine lv_iload_n hx hb dX6_row_27 rfl (lv_at hl 0 rfl) ?_
      refine lv_iconst (v := 1) hx hb dX6_row_28 (by decide) ?_
      refine lv_isub hx hb dX6_row_29 ?_
      refine lv_i2l hx hb dX6_row_30 rfl ?_
      refine tc_isIn hC hI hT ⟨Nat.le_of_ble_eq_true rfl, Nat.le_of_ble_eq_true rfl⟩ ⟨Nat.zero_le _, Nat.zero_le _⟩ hl.1 (Nat.le_of_ble_eq_true rfl) dX6_row_31 (fun r20 τ19 H locs hT hI => ?_)
      refine lv_if_ne (tgt := 39) hx hb dX6_row_34 (by decide) (fun hc => ?_) (fun hc => ?_)
      · have hT := hT.1 hc
        refine lv_iconst (v := 0) hx hb dX6_row_39 (by decide) ?_
        refine lv_istore_n (lv' := [(3, .int 0), (2, .int r16), (0, .ref (ad 0)), (1, .int x1)]) hx hb dX6_row_40 rfl hl (Nat.le_of_ble_eq_true rfl) rfl (fun ls hl => ?_)
        refine lv_iconst (v := 0) hx hb dX6_row_41 (by decide) ?_
        refine lv_istore (lv' := [(4, .int 0), (3, .int 0), (2, .int r16), (0, .ref (ad 0)), (1, .int x1)]) hx hb dX6_row_42 hl (Nat.le_of_ble_eq_true rfl) rfl (fun ls hl => ?_)
        obtain ⟨n44, hT⟩ := hT
        exact w_44 x1 r16 n44 0 0 τ19 _ _ _ hT hI (lv_sub hl [3, 4, 2, 1, 0] rfl)
      · have hT := hT.2 hc
        refine lv_iconst (v := -1) hx hb dX6_row_37 (by decide) ?_
        exact hret _ _ _ _ _ _ hT hI dX6_row_38
set_option maxHeartbeats 4000000 in
set_option maxRecDepth 100000 in
theorem met_doPart (l : Launch) (D : va_G) (dA : Nat → ClassId) (ad : Nat → Nat) (hJ : rgJ twL ad) (sz : Nat) (τ : Sto) (x1 : Int32) (K : Int32 → Sto → Prop) (hT : T_doPart τ x1 K) : Met l yX6_doPart (ws_ yX6_doPart cX6_doPart 6 (some .boolean)) ({ frames := 2, cells := 0, slots := 0, locals := 33 }) (va_Pc [.ref (ad 0), .int x1] (rgU D vwCl dA twL ad sz τ)) (va_Qi K (rgU D vwCl dA twL ad sz) (rgAd twL ad)) 0 0 (rgAd twL ad) := by
  refine tw_metz hJ (by decide) rfl (Nat.le_of_ble_eq_true rfl) ?_
  intro p e s m args below meth c Q hC hret hI ls hl
  have hx := hC.1.1
  have hb := hC.1.2.1
  have hl : lv_has ls 6 [(0, .ref (ad 0)), (1, .int x1)] := hl
  have w_54 : ∀ (x1 : Int32) (x2 : Int32) (k2 : Int32 → Sto → Prop) (k12 : Int32 → Sto → Prop), (∀ (x2 : Int32) (τ : Sto) (H : Heap) (locs : List Loc) (ls : Array Slot), k2 x2 τ → tI D dA ad sz s.heap τ H locs → lv_has ls 6 [(0, .ref (ad 0)), (1, .int x1), (2, .int x2)] → W p l e ({ frames := 2, cells := 0, slots := 0, locals := 33 }) s m args below meth c H locs 0 0 Q (F0 m 2 ls [])) → (∀ (x3 : Int32) (τ : Sto) (H : Heap) (locs : List Loc) (ls : Array Slot), k12 x3 τ → tI D dA ad sz s.heap τ H locs → lv_has ls 6 [(0, .ref (ad 0)), (1, .int x1), (2, .int x2), (3, .int x3)] → W p l e ({ frames := 2, cells := 0, slots := 0, locals := 33 }) s m args below meth c H locs 0 0 Q (F0 m 12 ls [])) → ∀ (x3 : Int32) (n : Nat) (x4 : Int32) (x5 : Int32) (τ : Sto) (H : Heap) (locs : List Loc) (ls : Array Slot), T_doPart_54 K k2 k12 x1 x2 x3 n x4 x5 τ → tI D dA ad sz s.heap τ H locs → lv_has ls 6 [(0, .ref (ad 0)), (1, .int x1), (2, .int x2), (3, .int x3), (4, .int x4), (5, .int x5)] → W p l e ({ frames := 2, cells := 0, slots := 0, locals := 33 }) s m args below meth c H locs 0 0 Q (F0 m 54 ls []) := by
    intro x1 x2 k2 k12 hk2 hk12 x3 n
    induction n with
    | zero => intro x4 x5 τ H locs ls hT; exact hT.elim
    | succ n ih =>
      intro x4 x5 τ H locs ls hT hI hl
      unfold T_doPart_54 at hT
      refine lv_iload hx hb dX6_doPart_54 (lv_at hl 5 rfl) ?_
      refine lv_aload_n hx hb dX6_doPart_56 rfl (lv_at hl 0 rfl) ?_
      refine tc_trialMany hC hI hT ⟨Nat.le_of_ble_eq_true rfl, Nat.le_of_ble_eq_true rfl⟩ ⟨Nat.zero_le _, Nat.zero_le _⟩ hl.1 (Nat.le_of_ble_eq_true rfl) dX6_doPart_57 (fun r2 τ1 H locs hT hI => ?_)
      refine lv_icmp_ge (tgt := 118) hx hb dX6_doPart_60 (by decide) (fun hc => ?_) (fun hc => ?_)
      · have hT := hT.1 hc
        refine lv_iload hx hb dX6_doPart_118 (lv_at hl 4 rfl) ?_
        refine lv_if_ne (tgt := 125) hx hb dX6_doPart_120 (by decide) (fun hc => ?_) (fun hc => ?_)
        · have hT := hT.1 hc
          refine lv_iinc (v := x3 + 1) (lv' := [(3, .int (x3 + 1)), (0, .ref (ad 0)), (1, .int x1), (2, .int x2), (4, .int x4), (5, .int x5)]) hx hb dX6_doPart_125 hl (k := 3) rfl rfl (Nat.le_of_ble_eq_true rfl) rfl (fun ls hl => ?_)
          refine lv_goto (tgt := 12) hx hb dX6_doPart_128 (by decide) ?_
          exact hk12 (x3 + 1) τ1 _ _ _ hT hI (lv_sub hl [1, 2, 3, 0] rfl)
        · have hT := hT.2 hc
          refine lv_iconst (v := 0) hx hb dX6_doPart_123 (by decide) ?_
          exact hret _ _ _ _ _ _ (by decide) hT hI dX6_doPart_124
      · have hT := hT.2 hc
        refine lv_iload hx hb dX6_doPart_63 (lv_at hl 4 rfl) ?_
        refine lv_if_ne (tgt := 105) hx hb dX6_doPart_65 (by decide) (fun hc => ?_) (fun hc => ?_)
        · have hT := hT.1 hc
          refine lv_iconst (v := 1) hx hb dX6_doPart_105 (by decide) ?_
          refine lv_goto (tgt := 110) hx hb dX6_doPart_106 (by decide) ?_
          refine lv_istore (lv' := [(4, .int 1), (0, .ref (ad 0)), (1, .int x1), (2, .int x2), (3, .int x3), (5, .int x5)]) hx hb dX6_doPart_110 hl (Nat.le_of_ble_eq_true rfl) rfl (fun ls hl => ?_)
          refine lv_iinc (v := x5 + 1) (lv' := [(5, .int (x5 + 1)), (4, .int 1), (0, .ref (ad 0)), (1, .int x1), (2, .int x2), (3, .int x3)]) hx hb dX6_doPart_112 hl (k := 5) rfl rfl (Nat.le_of_ble_eq_true rfl) rfl (fun ls hl => ?_)
          refine lv_goto (tgt := 54) hx hb dX6_doPart_115 (by decide) ?_
          exact ih 1 (x5 + 1) τ1 _ _ _ hT hI (lv_sub hl [2, 3, 4, 5, 1, 0] rfl)
        · have hT := hT.2 hc
          refine lv_iload_n hx hb dX6_doPart_68 rfl (lv_at hl 1 rfl) ?_
          refine lv_iload hx hb dX6_doPart_69 (lv_at hl 5 rfl) ?_
          refine lv_ishr hx hb dX6_doPart_71 ?_
          refine lv_iconst (v := 1) hx hb dX6_doPart_72 (by decide) ?_
          refine lv_iand hx hb dX6_doPart_73 ?_
          refine lv_iconst (v := 1) hx hb dX6_doPart_74 (by decide) ?_
          refine lv_icmp_ne (tgt := 109) hx hb dX6_doPart_75 (by decide) (fun hc => ?_) (fun hc => ?_)
          · have hT := hT.1 hc
            refine lv_iconst (v := 0) hx hb dX6_doPart_109 (by decide) ?_
            refine lv_istore (lv' := [(4, .int 0), (0, .ref (ad 0)), (1, .int x1), (2, .int x2), (3, .int x3), (5, .int x5)]) hx hb dX6_doPart_110 hl (Nat.le_of_ble_eq_true rfl) rfl (fun ls hl => ?_)
            refine lv_iinc (v := x5 + 1) (lv' := [(5, .int (x5 + 1)), (4, .int 0), (0, .ref (ad 0)), (1, .int x1), (2, .int x2), (3, .int x3)]) hx hb dX6_doPart_112 hl (k := 5) rfl rfl (Nat.le_of_ble_eq_true rfl) rfl (fun ls hl => ?_)
            refine lv_goto (tgt := 54) hx hb dX6_doPart_115 (by decide) ?_
            exact ih 0 (x5 + 1) τ1 _ _ _ hT hI (lv_sub hl [2, 3, 4, 5, 1, 0] rfl)
          · have hT := hT.2 hc
            refine lv_aload_n hx hb dX6_doPart_78 rfl (lv_at hl 0 rfl) ?_
            refine tg_56 hC hI dX6_doPart_79 ?_
            refine lv_bipush (v := 8) hx hb dX6_doPart_82 (by decide) ?_
            refine lv_iload hx hb dX6_doPart_84 (lv_at hl 5 rfl) ?_
            refine lv_imul hx hb dX6_doPart_86 ?_
            refine lv_iload_n hx hb dX6_doPart_87 rfl (lv_at hl 2 rfl) ?_
            refine lv_iadd hx hb dX6_doPart_88 ?_
            refine tw_iald hC hI tl_57 hT dX6_doPart_89 (fun hT => ?_)
            refine lv_aload_n hx hb dX6_doPart_90 rfl (lv_at hl 0 rfl) ?_
            refine tg_56 hC hI dX6_doPart_91 ?_
            refine lv_bipush (v := 8) hx hb dX6_doPart_94 (by decide) ?_
            refine lv_iload hx hb dX6_doPart_96 (lv_at hl 5 rfl) ?_
            refine lv_imul hx hb dX6_doPart_98 ?_
            refine lv_iload_n hx hb dX6_doPart_99 rfl (lv_at hl 3 rfl) ?_
            refine lv_iadd hx hb dX6_doPart_100 ?_
            refine tw_iald hC hI tl_57 hT dX6_doPart_101 (fun hT => ?_)
            refine lv_icmp_eq (tgt := 109) hx hb dX6_doPart_102 (by decide) (fun hc => ?_) (fun hc => ?_)
            · have hT := hT.1 hc
              refine lv_iconst (v := 0) hx hb dX6_doPart_109 (by decide) ?_
              refine lv_istore (lv' := [(4, .int 0), (0, .ref (ad 0)), (1, .int x1), (2, .int x2), (3, .int x3), (5, .int x5)]) hx hb dX6_doPart_110 hl (Nat.le_of_ble_eq_true rfl) rfl (fun ls hl => ?_)
              refine lv_iinc (v := x5 + 1) (lv' := [(5, .int (x5 + 1)), (4, .int 0), (0, .ref (ad 0)), (1, .int x1), (2, .int x2), (3, .int x3)]) hx hb dX6_doPart_112 hl (k := 5) rfl rfl (Nat.le_of_ble_eq_true rfl) rfl (fun ls hl => ?_)
              refine lv_goto (tgt := 54) hx hb dX6_doPart_115 (by decide) ?_
              exact ih 0 (x5 + 1) τ1 _ _ _ hT hI (lv_sub hl [2, 3, 4, 5, 1, 0] rfl)
            · have hT := hT.2 hc
              refine lv_iconst (v := 1) hx hb dX6_doPart_105 (by decide) ?_
              refine lv_goto (tgt := 110) hx hb dX6_doPart_106 (by decide) ?_
              refine lv_istore (lv' := [(4, .int 1), (0, .ref (ad 0)), (1, .int x1), (2, .int x2), (3, .int x3), (5, .int x5)]) hx hb dX6_doPart_110 hl (Nat.le_of_ble_eq_true rfl) rfl (fun ls hl => ?_)
              refine lv_iinc (v := x5 + 1) (lv' := [(5, .int (x5 + 1)), (4, .int 1), (0, .ref (ad 0)), (1, .int x1), (2, .int x2), (3, .int x3)]) hx hb dX6_doPart_112 hl (k := 5) rfl rfl (Nat.le_of_ble_eq_true rfl) rfl (fun ls hl => ?_)
              refine lv_goto (tgt := 54) hx hb dX6_doPart_115 (by decide) ?_
              exact ih 1 (x5 + 1) τ1 _ _ _ hT hI (lv_sub hl [2, 3, 4, 5, 1, 0] rfl)
  have w_12 : ∀ (x1 : Int32) (k2 : Int32 → Sto → Prop), (∀ (x2 : Int32) (τ : Sto) (H : Heap) (locs : List Loc) (ls : Array Slot), k2 x2 τ → tI D dA ad sz s.heap τ H locs → lv_has ls 6 [(0, .ref (ad 0)), (1, .int x1), (2, .int x2)] → W p l e ({ frames := 2, cells := 0, slots := 0, locals := 33 }) s m args below meth c H locs 0 0 Q (F0 m 2 ls [])) → ∀ (x2 : Int32) (n : Nat) (x3 : Int32) (τ : Sto) (H : Heap) (locs : List Loc) (ls : Array Slot), T_doPart_12 K k2 x1 x2 n x3 τ → tI D dA ad sz s.heap τ H locs → lv_has ls 6 [(0, .ref (ad 0)), (1, .int x1), (2, .int x2), (3, .int x3)] → W p l e ({ frames := 2, cells := 0, slots := 0, locals := 33 }) s m args below meth c H locs 0 0 Q (F0 m 12 ls []) := by
    intro x1 k2 hk2 x2 n
    induction n with
    | zero => intro x3 τ H locs ls hT; exact hT.elim
    | succ n ih =>
      intro x3 τ H locs ls hT hI hl
      unfold T_doPart_12 at hT
      refine lv_iload_n hx hb dX6_doPart_12 rfl (lv_at hl 3 rfl) ?_
      refine lv_aload_n hx hb dX6_doPart_13 rfl (lv_at hl 0 rfl) ?_
      refine tc_thingMany hC hI hT ⟨Nat.le_of_ble_eq_true rfl, Nat.le_of_ble_eq_true rfl⟩ ⟨Nat.zero_le _, Nat.zero_le _⟩ hl.1 (Nat.le_of_ble_eq_true rfl) dX6_doPart_14 (fun r4 τ3 H locs hT hI => ?_)
      refine lv_icmp_ge (tgt := 131) hx hb dX6_doPart_17 (by decide) (fun hc => ?_) (fun hc => ?_)
      · have hT := hT.1 hc
        refine lv_iinc (v := x2 + 1) (lv' := [(2, .int (x2 + 1)), (0, .ref (ad 0)), (1, .int x1), (3, .int x3)]) hx hb dX6_doPart_131 hl (k := 2) rfl rfl (Nat.le_of_ble_eq_true rfl) rfl (fun ls hl => ?_)
        refine lv_goto (tgt := 2) hx hb dX6_doPart_134 (by decide) ?_
        exact hk2 (x2 + 1) τ3 _ _ _ hT hI (lv_sub hl [1, 2, 0] rfl)
      · have hT := hT.2 hc
        refine lv_aload_n hx hb dX6_doPart_20 rfl (lv_at hl 0 rfl) ?_
        refine lv_iload_n hx hb dX6_doPart_21 rfl (lv_at hl 2 rfl) ?_
        refine tc_isForged hC hI hT ⟨Nat.le_of_ble_eq_true rfl, Nat.le_of_ble_eq_true rfl⟩ ⟨Nat.zero_le _, Nat.zero_le _⟩ hl.1 (Nat.le_of_ble_eq_true rfl) dX6_doPart_22 (fun r6 τ5 H locs hT hI => ?_)
        refine lv_if_eq (tgt := 125) hx hb dX6_doPart_25 (by decide) (fun hc => ?_) (fun hc => ?_)
        · have hT := hT.1 hc
          refine lv_iinc (v := x3 + 1) (lv' := [(3, .int (x3 + 1)), (0, .ref (ad 0)), (1, .int x1), (2, .int x2)]) hx hb dX6_doPart_125 hl (k := 3) rfl rfl (Nat.le_of_ble_eq_true rfl) rfl (fun ls hl => ?_)
          refine lv_goto (tgt := 12) hx hb dX6_doPart_128 (by decide) ?_
          exact ih (x3 + 1) τ5 _ _ _ hT hI (lv_sub hl [1, 2, 3, 0] rfl)
        · have hT := hT.2 hc
          refine lv_aload_n hx hb dX6_doPart_28 rfl (lv_at hl 0 rfl) ?_
          refine lv_iload_n hx hb dX6_doPart_29 rfl (lv_at hl 3 rfl) ?_
          refine tc_stateOf hC hI hT ⟨Nat.le_of_ble_eq_true rfl, Nat.le_of_ble_eq_true rfl⟩ ⟨Nat.zero_le _, Nat.zero_le _⟩ hl.1 (Nat.le_of_ble_eq_true rfl) dX6_doPart_30 (fun r8 τ7 H locs hT hI => ?_)
          refine lv_iconst (v := 2) hx hb dX6_doPart_33 (by decide) ?_
          refine lv_icmp_ne (tgt := 125) hx hb dX6_doPart_34 (by decide) (fun hc => ?_) (fun hc => ?_)
          · have hT := hT.1 hc
            refine lv_iinc (v := x3 + 1) (lv' := [(3, .int (x3 + 1)), (0, .ref (ad 0)), (1, .int x1), (2, .int x2)]) hx hb dX6_doPart_125 hl (k := 3) rfl rfl (Nat.le_of_ble_eq_true rfl) rfl (fun ls hl => ?_)
            refine lv_goto (tgt := 12) hx hb dX6_doPart_128 (by decide) ?_
            exact ih (x3 + 1) τ7 _ _ _ hT hI (lv_sub hl [1, 2, 3, 0] rfl)
          · have hT := hT.2 hc
            refine lv_aload_n hx hb dX6_doPart_37 rfl (lv_at hl 0 rfl) ?_
            refine lv_iload_n hx hb dX6_doPart_38 rfl (lv_at hl 3 rfl) ?_
            refine tc_isForged hC hI hT ⟨Nat.le_of_ble_eq_true rfl, Nat.le_of_ble_eq_true rfl⟩ ⟨Nat.zero_le _, Nat.zero_le _⟩ hl.1 (Nat.le_of_ble_eq_true rfl) dX6_doPart_39 (fun r10 τ9 H locs hT hI => ?_)
            refine lv_if_eq (tgt := 48) hx hb dX6_doPart_42 (by decide) (fun hc => ?_) (fun hc => ?_)
            · have hT := hT.1 hc
              refine lv_iconst (v := 0) hx hb dX6_doPart_48 (by decide) ?_
              refine lv_istore (lv' := [(4, .int 0), (0, .ref (ad 0)), (1, .int x1), (2, .int x2), (3, .int x3)]) hx hb dX6_doPart_49 hl (Nat.le_of_ble_eq_true rfl) rfl (fun ls hl => ?_)
              refine lv_iconst (v := 0) hx hb dX6_doPart_51 (by decide) ?_
              refine lv_istore (lv' := [(5, .int 0), (4, .int 0), (0, .ref (ad 0)), (1, .int x1), (2, .int x2), (3, .int x3)]) hx hb dX6_doPart_52 hl (Nat.le_of_ble_eq_true rfl) rfl (fun ls hl => ?_)
              obtain ⟨n54, hT⟩ := hT
              exact w_54 x1 x2 (k2) (T_doPart_12 K k2 x1 x2 n) (hk2) (ih) x3 n54 0 0 τ9 _ _ _ hT hI (lv_sub hl [2, 3, 4, 5, 1, 0] rfl)
            · have hT := hT.2 hc
              refine lv_goto (tgt := 125) hx hb dX6_doPart_45 (by decide) ?_
              refine lv_iinc (v := x3 + 1) (lv' := [(3, .int (x3 + 1)), (0, .ref (ad 0)), (1, .int x1), (2, .int x2)]) hx hb dX6_doPart_125 hl (k := 3) rfl rfl (Nat.le_of_ble_eq_true rfl) rfl (fun ls hl => ?_)
              refine lv_goto (tgt := 12) hx hb dX6_doPart_128 (by decide) ?_
              exact ih (x3 + 1) τ9 _ _ _ hT hI (lv_sub hl [1, 2, 3, 0] rfl)
  have w_2 : ∀ (x1 : Int32) (n : Nat) (x2 : Int32) (τ : Sto) (H : Heap) (locs : List Loc) (ls : Array Slot), T_doPart_2 K x1 n x2 τ → tI D dA ad sz s.heap τ H locs → lv_has ls 6 [(0, .ref (ad 0)), (1, .int x1), (2, .int x2)] → W p l e ({ frames := 2, cells := 0, slots := 0, locals := 33 }) s m args below meth c H locs 0 0 Q (F0 m 2 ls []) := by
    intro x1 n
    induction n with
    | zero => intro x2 τ H locs ls hT; exact hT.elim
    | succ n ih =>
      intro x2 τ H locs ls hT hI hl
      unfold T_doPart_2 at hT
      refine lv_iload_n hx hb dX6_doPart_2 rfl (lv_at hl 2 rfl) ?_
      refine lv_aload_n hx hb dX6_doPart_3 rfl (lv_at hl 0 rfl) ?_
      refine tc_thingMany hC hI hT ⟨Nat.le_of_ble_eq_true rfl, Nat.le_of_ble_eq_true rfl⟩ ⟨Nat.zero_le _, Nat.zero_le _⟩ hl.1 (Nat.le_of_ble_eq_true rfl) dX6_doPart_4 (fun r12 τ11 H locs hT hI => ?_)
      refine lv_icmp_ge (tgt := 137) hx hb dX6_doPart_7 (by decide) (fun hc => ?_) (fun hc => ?_)
      · have hT := hT.1 hc
        refine lv_iconst (v := 1) hx hb dX6_doPart_137 (by decide) ?_
        exact hret _ _ _ _ _ _ (by decide) hT hI dX6_doPart_138
      · have hT := hT.2 hc
        refine lv_iconst (v := 0) hx hb dX6_doPart_10 (by decide) ?_
        refine lv_istore_n (lv' := [(3, .int 0), (0, .ref (ad 0)), (1, .int x1), (2, .int x2)]) hx hb dX6_doPart_11 rfl hl (Nat.le_of_ble_eq_true rfl) rfl (fun ls hl => ?_)
        obtain ⟨n12, hT⟩ := hT
        exact w_12 x1 (T_doPart_2 K x1 n) (ih) x2 n12 0 τ11 _ _ _ hT hI (lv_sub hl [1, 2, 3, 0] rfl)
  unfold T_doPart at hT
  refine lv_iconst (v := 0) hx hb dX6_doPart_0 (by decide) ?_
  refine lv_istore_n (lv' := [(2, .int 0), (0, .ref (ad 0)), (1, .int x1)]) hx hb dX6_doPart_1 rfl hl (Nat.le_of_ble_eq_true rfl) rfl (fun ls hl => ?_)
  obtain ⟨n2, hT⟩ := hT
  exact w_2 x1 n2 0 τ _ _ _ hT hI (lv_sub hl [1, 2, 0] rfl)
theorem tc_doPart {p : Program} {l : Launch} {e : Env} {R : Room} {s : State} {m : MethodId} {args : Array Value} {below : List Frame} {meth : Method} {c : Code} {H : Heap} {locs : List Loc} {cells slots : Nat} {Q : State → Prop} {cc : ByteArray} {nL : Nat} {D : va_G} {dA : Nat → ClassId} {ad : Nat → Nat} {τ : Sto} {pc sz : Nat} {ls : Array Slot} {rest : List Value} {H0 : Heap} {x1 : Int32} {K : Int32 → Sto → Prop} (hC : tC p m c cc nL s args D dA ad) (hI : tI D dA ad sz H0 τ H locs) (hT : T_doPart τ x1 K) (hR : 2 + 1 ≤ R.frames ∧ 8 + (6 + 11) + 33 ≤ R.locals) (hf : cells ≤ R.cells ∧ slots ≤ R.slots) (hsz : ls.size = nL) (hroom : (rest.map fun v => v.category).sum ≤ 8) (hdg : decode cc pc = .ok (.invokevirtual 548, 3)) (kk : ∀ (r : Int32) (τ1 : Sto) (H1 : Heap) (locs1 : List Loc), K r τ1 → tI D dA ad sz H0 τ1 H1 locs1 → W p l e R s m args below meth c H1 locs1 cells slots Q (F0 m (pc + 3) ls (.int r :: rest))) : W p l e R s m args below meth c H locs cells slots Q (F0 m pc ls (.int x1 :: .ref (ad 0) :: rest)) :=
  rg_calli (rg_runV hC.1 hC.2.1 hI.1 hI.2.1 tl_0 rfl (met_doPart l D dA ad hC.2.2 sz τ x1 K hT) (lw_V q2442 q2444 qs143 q170 q2445) 1 (by decide +kernel) ⟨rfl, rfl⟩ hR rfl hsz rfl hroom hf hdg) hI.2.2 (fun r τ1 H1 l1 hk hz hP hS => kk r τ1 H1 l1 hk ⟨hP, hz, hS⟩)
set_option maxHeartbeats 4000000 in
set_option maxRecDepth 100000 in
theorem met_parts (l : Launch) (D : va_G) (dA : Nat → ClassId) (ad : Nat → Nat) (hJ : rgJ twL ad) (sz : Nat) (τ : Sto) (K : Int32 → Sto → Prop) (hT : T_parts τ K) : Met l yX6_parts (ws_ yX6_parts cX6_parts 3 (some .int)) ({ frames := 5, cells := 0, slots := 0, locals := 108 }) (va_Pc [.ref (ad 0)] (rgU D vwCl dA twL ad sz τ)) (va_Qi K (rgU D vwCl dA twL ad sz) (rgAd twL ad)) 0 0 (rgAd twL ad) := by
  refine tw_meti hJ (by decide) rfl (Nat.le_of_ble_eq_true rfl) ?_
  intro p e s m args below meth c Q hC hret hI ls hl
  have hx := hC.1.1
  have hb := hC.1.2.1
  have hl : lv_has ls 3 [(0, .ref (ad 0))] := hl
  have w_87 : ∀ (k61 : Int32 → Int32 → Sto → Prop), (∀ (x1 : Int32) (x2 : Int32) (τ : Sto) (H : Heap) (locs : List Loc) (ls : Array Slot), k61 x1 x2 τ → tI D dA ad sz s.heap τ H locs → lv_has ls 3 [(0, .ref (ad 0)), (1, .int x1), (2, .int x2)] → W p l e ({ frames := 5, cells := 0, slots := 0, locals := 108 }) s m args below meth c H locs 0 0 Q (F0 m 61 ls [])) → ∀ (x1 : Int32) (x2 : Int32) (τ : Sto) (H : Heap) (locs : List Loc) (ls : Array Slot), T_parts_87 K k61 x1 x2 τ → tI D dA ad sz s.heap τ H locs → lv_has ls 3 [(0, .ref (ad 0)), (1, .int x1), (2, .int x2)] → W p l e ({ frames := 5, cells := 0, slots := 0, locals := 108 }) s m args below meth c H locs 0 0 Q (F0 m 87 ls []) := by
    intro k61 hk61 x1 x2 τ H locs ls hT hI hl
    unfold T_parts_87 at hT
    refine lv_aload_n hx hb dX6_parts_87 rfl (lv_at hl 0 rfl) ?_
    refine lv_iload_n hx hb dX6_parts_88 rfl (lv_at hl 2 rfl) ?_
    refine tc_doPart hC hI hT ⟨Nat.le_of_ble_eq_true rfl, Nat.le_of_ble_eq_true rfl⟩ ⟨Nat.zero_le _, Nat.zero_le _⟩ hl.1 (Nat.le_of_ble_eq_true rfl) dX6_parts_89 (fun r2 τ1 H locs hT hI => ?_)
    refine lv_if_eq (tgt := 97) hx hb dX6_parts_92 (by decide) (fun hc => ?_) (fun hc => ?_)
    · have hT := hT.1 hc
      refine lv_iinc (v := x2 + 1) (lv' := [(2, .int (x2 + 1)), (0, .ref (ad 0)), (1, .int x1)]) hx hb dX6_parts_97 hl (k := 2) rfl rfl (Nat.le_of_ble_eq_true rfl) rfl (fun ls hl => ?_)
      refine lv_goto (tgt := 61) hx hb dX6_parts_100 (by decide) ?_
      exact hk61 x1 (x2 + 1) τ1 _ _ _ hT hI (lv_sub hl [1, 2, 0] rfl)
    · have hT := hT.2 hc
      refine lv_iload_n hx hb dX6_parts_95 rfl (lv_at hl 2 rfl) ?_
      refine lv_istore_n (lv' := [(1, .int x2), (0, .ref (ad 0)), (2, .int x2)]) hx hb dX6_parts_96 rfl hl (Nat.le_of_ble_eq_true rfl) rfl (fun ls hl => ?_)
      refine lv_iinc (v := x2 + 1) (lv' := [(2, .int (x2 + 1)), (1, .int x2), (0, .ref (ad 0))]) hx hb dX6_parts_97 hl (k := 2) rfl rfl (Nat.le_of_ble_eq_true rfl) rfl (fun ls hl => ?_)
      refine lv_goto (tgt := 61) hx hb dX6_parts_100 (by decide) ?_
      exact hk61 x2 (x2 + 1) τ1 _ _ _ hT hI (lv_sub hl [2, 1, 0] rfl)
  have w_61 : ∀ (n : Nat) (x1 : Int32) (x2 : Int32) (τ : Sto) (H : Heap) (locs : List Loc) (ls : Array Slot), T_parts_61 K n x1 x2 τ → tI D dA ad sz s.heap τ H locs → lv_has ls 3 [(0, .ref (ad 0)), (1, .int x1), (2, .int x2)] → W p l e ({ frames := 5, cells := 0, slots := 0, locals := 108 }) s m args below meth c H locs 0 0 Q (F0 m 61 ls []) := by
    intro n
    induction n with
    | zero => intro x1 x2 τ H locs ls hT; exact hT.elim
    | succ n ih =>
      intro x1 x2 τ H locs ls hT hI hl
      unfold T_parts_61 at hT
      refine lv_iload_n hx hb dX6_parts_61 rfl (lv_at hl 2 rfl) ?_
      refine lv_iconst (v := 1) hx hb dX6_parts_62 (by decide) ?_
      refine lv_aload_n hx hb dX6_parts_63 rfl (lv_at hl 0 rfl) ?_
      refine tc_trialMany hC hI hT ⟨Nat.le_of_ble_eq_true rfl, Nat.le_of_ble_eq_true rfl⟩ ⟨Nat.zero_le _, Nat.zero_le _⟩ hl.1 (Nat.le_of_ble_eq_true rfl) dX6_parts_64 (fun r4 τ3 H locs hT hI => ?_)
      refine lv_ishl hx hb dX6_parts_67 ?_
      refine lv_icmp_ge (tgt := 103) hx hb dX6_parts_68 (by decide) (fun hc => ?_) (fun hc => ?_)
      · have hT := hT.1 hc
        refine lv_iload_n hx hb dX6_parts_103 rfl (lv_at hl 1 rfl) ?_
        exact hret _ _ _ _ _ _ hT hI dX6_parts_104
      · have hT := hT.2 hc
        refine lv_iload_n hx hb dX6_parts_71 rfl (lv_at hl 1 rfl) ?_
        refine lv_iconst (v := -1) hx hb dX6_parts_72 (by decide) ?_
        refine lv_icmp_eq (tgt := 87) hx hb dX6_parts_73 (by decide) (fun hc => ?_) (fun hc => ?_)
        · have hT := hT.1 hc
          exact w_87 (T_parts_61 K n) (ih) x1 x2 τ3 _ _ _ hT hI (lv_sub hl [0, 1, 2] rfl)
        · have hT := hT.2 hc
          refine lv_iload_n hx hb dX6_parts_76 rfl (lv_at hl 2 rfl) ?_
          refine tc_bits hC hI hT ⟨Nat.le_of_ble_eq_true rfl, Nat.le_of_ble_eq_true rfl⟩ ⟨Nat.zero_le _, Nat.zero_le _⟩ hl.1 (Nat.le_of_ble_eq_true rfl) dX6_parts_77 (fun r6 τ5 H locs hT hI => ?_)
          refine lv_iload_n hx hb dX6_parts_80 rfl (lv_at hl 1 rfl) ?_
          refine tc_bits hC hI hT ⟨Nat.le_of_ble_eq_true rfl, Nat.le_of_ble_eq_true rfl⟩ ⟨Nat.zero_le _, Nat.zero_le _⟩ hl.1 (Nat.le_of_ble_eq_true rfl) dX6_parts_81 (fun r8 τ7 H locs hT hI => ?_)
          refine lv_icmp_ge (tgt := 97) hx hb dX6_parts_84 (by decide) (fun hc => ?_) (fun hc => ?_)
          · have hT := hT.1 hc
            refine lv_iinc (v := x2 + 1) (lv' := [(2, .int (x2 + 1)), (0, .ref (ad 0)), (1, .int x1)]) hx hb dX6_parts_97 hl (k := 2) rfl rfl (Nat.le_of_ble_eq_true rfl) rfl (fun ls hl => ?_)
            refine lv_goto (tgt := 61) hx hb dX6_parts_100 (by decide) ?_
            exact ih x1 (x2 + 1) τ7 _ _ _ hT hI (lv_sub hl [1, 2, 0] rfl)
          · have hT := hT.2 hc
            exact w_87 (T_parts_61 K n) (ih) x1 x2 τ7 _ _ _ hT hI (lv_sub hl [0, 1, 2] rfl)
  have w_12 : ∀ (k2 : Int32 → Sto → Prop), (∀ (x1 : Int32) (τ : Sto) (H : Heap) (locs : List Loc) (ls : Array Slot), k2 x1 τ → tI D dA ad sz s.heap τ H locs → lv_has ls 3 [(0, .ref (ad 0)), (1, .int x1)] → W p l e ({ frames := 5, cells := 0, slots := 0, locals := 108 }) s m args below meth c H locs 0 0 Q (F0 m 2 ls [])) → ∀ (x1 : Int32) (n : Nat) (x2 : Int32) (τ : Sto) (H : Heap) (locs : List Loc) (ls : Array Slot), T_parts_12 K k2 x1 n x2 τ → tI D dA ad sz s.heap τ H locs → lv_has ls 3 [(0, .ref (ad 0)), (1, .int x1), (2, .int x2)] → W p l e ({ frames := 5, cells := 0, slots := 0, locals := 108 }) s m args below meth c H locs 0 0 Q (F0 m 12 ls []) := by
    intro k2 hk2 x1 n
    induction n with
    | zero => intro x2 τ H locs ls hT; exact hT.elim
    | succ n ih =>
      intro x2 τ H locs ls hT hI hl
      unfold T_parts_12 at hT
      refine lv_iload_n hx hb dX6_parts_12 rfl (lv_at hl 2 rfl) ?_
      refine lv_aload_n hx hb dX6_parts_13 rfl (lv_at hl 0 rfl) ?_
      refine tc_thingMany hC hI hT ⟨Nat.le_of_ble_eq_true rfl, Nat.le_of_ble_eq_true rfl⟩ ⟨Nat.zero_le _, Nat.zero_le _⟩ hl.1 (Nat.le_of_ble_eq_true rfl) dX6_parts_14 (fun r10 τ9 H locs hT hI => ?_)
      refine lv_icmp_ge (tgt := 51) hx hb dX6_parts_17 (by decide) (fun hc => ?_) (fun hc => ?_)
      · have hT := hT.1 hc
        refine lv_iinc (v := x1 + 1) (lv' := [(1, .int (x1 + 1)), (0, .ref (ad 0)), (2, .int x2)]) hx hb dX6_parts_51 hl (k := 1) rfl rfl (Nat.le_of_ble_eq_true rfl) rfl (fun ls hl => ?_)
        refine lv_goto (tgt := 2) hx hb dX6_parts_54 (by decide) ?_
        exact hk2 (x1 + 1) τ9 _ _ _ hT hI (lv_sub hl [1, 0] rfl)
      · have hT := hT.2 hc
        refine lv_aload_n hx hb dX6_parts_20 rfl (lv_at hl 0 rfl) ?_
        refine tg_56 hC hI dX6_parts_21 ?_
        refine lv_bipush (v := 8) hx hb dX6_parts_24 (by decide) ?_
        refine lv_iload_n hx hb dX6_parts_26 rfl (lv_at hl 1 rfl) ?_
        refine lv_imul hx hb dX6_parts_27 ?_
        refine lv_iload_n hx hb dX6_parts_28 rfl (lv_at hl 2 rfl) ?_
        refine lv_iadd hx hb dX6_parts_29 ?_
        refine lv_aload_n hx hb dX6_parts_30 rfl (lv_at hl 0 rfl) ?_
        refine lv_iload_n hx hb dX6_parts_31 rfl (lv_at hl 1 rfl) ?_
        refine lv_iload_n hx hb dX6_parts_32 rfl (lv_at hl 2 rfl) ?_
        refine tc_isTrial hC hI hT ⟨Nat.le_of_ble_eq_true rfl, Nat.le_of_ble_eq_true rfl⟩ ⟨Nat.zero_le _, Nat.zero_le _⟩ hl.1 (Nat.le_of_ble_eq_true rfl) dX6_parts_33 (fun r12 τ11 H locs hT hI => ?_)
        refine lv_if_eq (tgt := 43) hx hb dX6_parts_36 (by decide) (fun hc => ?_) (fun hc => ?_)
        · have hT := hT.1 hc
          refine lv_iconst (v := 0) hx hb dX6_parts_43 (by decide) ?_
          refine tw_iast hC hI tl_57 hT dX6_parts_44 (fun τ13 H locs hT hI => ?_)
          refine lv_iinc (v := x2 + 1) (lv' := [(2, .int (x2 + 1)), (0, .ref (ad 0)), (1, .int x1)]) hx hb dX6_parts_45 hl (k := 2) rfl rfl (Nat.le_of_ble_eq_true rfl) rfl (fun ls hl => ?_)
          refine lv_goto (tgt := 12) hx hb dX6_parts_48 (by decide) ?_
          exact ih (x2 + 1) τ13 _ _ _ hT hI (lv_sub hl [1, 2, 0] rfl)
        · have hT := hT.2 hc
          refine lv_iconst (v := 1) hx hb dX6_parts_39 (by decide) ?_
          refine lv_goto (tgt := 44) hx hb dX6_parts_40 (by decide) ?_
          refine tw_iast hC hI tl_57 hT dX6_parts_44 (fun τ14 H locs hT hI => ?_)
          refine lv_iinc (v := x2 + 1) (lv' := [(2, .int (x2 + 1)), (0, .ref (ad 0)), (1, .int x1)]) hx hb dX6_parts_45 hl (k := 2) rfl rfl (Nat.le_of_ble_eq_true rfl) rfl (fun ls hl => ?_)
          refine lv_goto (tgt := 12) hx hb dX6_parts_48 (by decide) ?_
          exact ih (x2 + 1) τ14 _ _ _ hT hI (lv_sub hl [1, 2, 0] rfl)
  have w_2 : ∀ (n : Nat) (x1 : Int32) (τ : Sto) (H : Heap) (locs : List Loc) (ls : Array Slot), T_parts_2 K n x1 τ → tI D dA ad sz s.heap τ H locs → lv_has ls 3 [(0, .ref (ad 0)), (1, .int x1)] → W p l e ({ frames := 5, cells := 0, slots := 0, locals := 108 }) s m args below meth c H locs 0 0 Q (F0 m 2 ls []) := by
    intro n
    induction n with
    | zero => intro x1 τ H locs ls hT; exact hT.elim
    | succ n ih =>
      intro x1 τ H locs ls hT hI hl
      unfold T_parts_2 at hT
      refine lv_iload_n hx hb dX6_parts_2 rfl (lv_at hl 1 rfl) ?_
      refine lv_aload_n hx hb dX6_parts_3 rfl (lv_at hl 0 rfl) ?_
      refine tc_trialMany hC hI hT ⟨Nat.le_of_ble_eq_true rfl, Nat.le_of_ble_eq_true rfl⟩ ⟨Nat.zero_le _, Nat.zero_le _⟩ hl.1 (Nat.le_of_ble_eq_true rfl) dX6_parts_4 (fun r16 τ15 H locs hT hI => ?_)
      refine lv_icmp_ge (tgt := 57) hx hb dX6_parts_7 (by decide) (fun hc => ?_) (fun hc => ?_)
      · have hT := hT.1 hc
        refine lv_iconst (v := -1) hx hb dX6_parts_57 (by decide) ?_
        refine lv_istore_n (lv' := [(1, .int (-1)), (0, .ref (ad 0))]) hx hb dX6_parts_58 rfl hl (Nat.le_of_ble_eq_true rfl) rfl (fun ls hl => ?_)
        refine lv_iconst (v := 0) hx hb dX6_parts_59 (by decide) ?_
        refine lv_istore_n (lv' := [(2, .int 0), (1, .int (-1)), (0, .ref (ad 0))]) hx hb dX6_parts_60 rfl hl (Nat.le_of_ble_eq_true rfl) rfl (fun ls hl => ?_)
        obtain ⟨n61, hT⟩ := hT
        exact w_61 n61 (-1) 0 τ15 _ _ _ hT hI (lv_sub hl [2, 1, 0] rfl)
      · have hT := hT.2 hc
        refine lv_iconst (v := 0) hx hb dX6_parts_10 (by decide) ?_
        refine lv_istore_n (lv' := [(2, .int 0), (0, .ref (ad 0)), (1, .int x1)]) hx hb dX6_parts_11 rfl hl (Nat.le_of_ble_eq_true rfl) rfl (fun ls hl => ?_)
        obtain ⟨n12, hT⟩ := hT
        exact w_12 (T_parts_2 K n) (ih) x1 n12 0 τ15 _ _ _ hT hI (lv_sub hl [1, 2, 0] rfl)
  unfold T_parts at hT
  refine lv_iconst (v := 0) hx hb dX6_parts_0 (by decide) ?_
  refine lv_istore_n (lv' := [(1, .int 0), (0, .ref (ad 0))]) hx hb dX6_parts_1 rfl hl (Nat.le_of_ble_eq_true rfl) rfl (fun ls hl => ?_)
  obtain ⟨n2, hT⟩ := hT
  exact w_2 n2 0 τ _ _ _ hT hI (lv_sub hl [1, 0] rfl)
set_option maxHeartbeats 4000000 in
set_option maxRecDepth 100000 in
theorem met_lawed (l : Launch) (D : va_G) (dA : Nat → ClassId) (ad : Nat → Nat) (hJ : rgJ twL ad) (sz : Nat) (τ : Sto) (x1 : Int32) (x2 : Int32) (K : Int32 → Sto → Prop) (hT : T_lawed τ x1 x2 K) : Met l yX6_lawed (ws_ yX6_lawed cX6_lawed 6 (some .int)) ({ frames := 6, cells := 0, slots := 0, locals := 129 }) (va_Pc [.ref (ad 0), .int x1, .int x2] (rgU D vwCl dA twL ad sz τ)) (va_Qi K (rgU D vwCl dA twL ad sz) (rgAd twL ad)) 0 0 (rgAd twL ad) := by
  refine tw_meti hJ (by decide) rfl (Nat.le_of_ble_eq_true rfl) ?_
  intro p e s m args below meth c Q hC hret hI ls hl
  have hx := hC.1.1
  have hb := hC.1.2.1
  have hl : lv_has ls 6 [(0, .ref (ad 0)), (1, .int x1), (2, .int x2)] := hl
  have w_91 : ∀ (x2 : Int32) (x3 : Int32) (x4 : Int32) (τ : Sto) (H : Heap) (locs : List Loc) (ls : Array Slot), T_lawed_91 K x2 x3 x4 τ → tI D dA ad sz s.heap τ H locs → lv_has ls 6 [(0, .ref (ad 0)), (2, .int x2), (3, .int x3), (4, .int x4)] → W p l e ({ frames := 6, cells := 0, slots := 0, locals := 129 }) s m args below meth c H locs 0 0 Q (F0 m 91 ls []) := by
    intro x2 x3 x4 τ H locs ls hT hI hl
    unfold T_lawed_91 at hT
    refine lv_iload_n hx hb dX6_lawed_91 rfl (lv_at hl 1 rfl) ?_
    refine lv_if_ne (tgt := 104) hx hb dX6_lawed_92 (by decide) (fun hc => ?_) (fun hc => ?_)
    · have hT := hT.1 hc
      refine lv_iload_n hx hb dX6_lawed_104 rfl (lv_at hl 2 rfl) ?_
      refine lv_iload hx hb dX6_lawed_105 (lv_at hl 3 rfl) ?_
      refine lv_ixor hx hb dX6_lawed_107 ?_
      exact hret _ _ _ _ _ _ hT hI dX6_lawed_108
    · have hT := hT.2 hc
      refine lv_aload_n hx hb dX6_lawed_95 rfl (lv_at hl 0 rfl) ?_
      refine lv_iload hx hb dX6_lawed_96 (lv_at hl 3 rfl) ?_
      refine tc_useBy hC hI hT ⟨Nat.le_of_ble_eq_true rfl, Nat.le_of_ble_eq_true rfl⟩ ⟨Nat.zero_le _, Nat.zero_le _⟩ hl.1 (Nat.le_of_ble_eq_true rfl) dX6_lawed_98 (fun r2 τ1 H locs hT hI => ?_)
      refine lv_goto (tgt := 108) hx hb dX6_lawed_101 (by decide) ?_
      exact hret _ _ _ _ _ _ hT hI dX6_lawed_108
  have w_35 : ∀ (x1 : Int32) (x2 : Int32) (x3 : Int32) (n : Nat) (x4 : Int32) (x5 : Int32) (τ : Sto) (H : Heap) (locs : List Loc) (ls : Array Slot), T_lawed_35 K x1 x2 x3 n x4 x5 τ → tI D dA ad sz s.heap τ H locs → lv_has ls 6 [(0, .ref (ad 0)), (1, .int x1), (2, .int x2), (3, .int x3), (4, .int x4), (5, .int x5)] → W p l e ({ frames := 6, cells := 0, slots := 0, locals := 129 }) s m args below meth c H locs 0 0 Q (F0 m 35 ls []) := by
    intro x1 x2 x3 n
    induction n with
    | zero => intro x4 x5 τ H locs ls hT; exact hT.elim
    | succ n ih =>
      intro x4 x5 τ H locs ls hT hI hl
      unfold T_lawed_35 at hT
      refine lv_iload hx hb dX6_lawed_35 (lv_at hl 5 rfl) ?_
      refine lv_aload_n hx hb dX6_lawed_37 rfl (lv_at hl 0 rfl) ?_
      refine tc_thingMany hC hI hT ⟨Nat.le_of_ble_eq_true rfl, Nat.le_of_ble_eq_true rfl⟩ ⟨Nat.zero_le _, Nat.zero_le _⟩ hl.1 (Nat.le_of_ble_eq_true rfl) dX6_lawed_38 (fun r4 τ3 H locs hT hI => ?_)
      refine lv_icmp_ge (tgt := 84) hx hb dX6_lawed_41 (by decide) (fun hc => ?_) (fun hc => ?_)
      · have hT := hT.1 hc
        refine lv_iload_n hx hb dX6_lawed_84 rfl (lv_at hl 1 rfl) ?_
        refine lv_if_ne (tgt := 91) hx hb dX6_lawed_85 (by decide) (fun hc => ?_) (fun hc => ?_)
        · have hT := hT.1 hc
          exact w_91 x2 x3 x4 τ3 _ _ _ hT hI (lv_sub hl [0, 2, 3, 4] rfl)
        · have hT := hT.2 hc
          refine lv_iload_n hx hb dX6_lawed_88 rfl (lv_at hl 3 rfl) ?_
          refine lv_istore (lv' := [(4, .int x3), (0, .ref (ad 0)), (1, .int x1), (2, .int x2), (3, .int x3), (5, .int x5)]) hx hb dX6_lawed_89 hl (Nat.le_of_ble_eq_true rfl) rfl (fun ls hl => ?_)
          exact w_91 x2 x3 x3 τ3 _ _ _ hT hI (lv_sub hl [1, 3, 4, 0] rfl)
      · have hT := hT.2 hc
        refine lv_aload_n hx hb dX6_lawed_44 rfl (lv_at hl 0 rfl) ?_
        refine lv_iload hx hb dX6_lawed_45 (lv_at hl 5 rfl) ?_
        refine tc_stateOf hC hI hT ⟨Nat.le_of_ble_eq_true rfl, Nat.le_of_ble_eq_true rfl⟩ ⟨Nat.zero_le _, Nat.zero_le _⟩ hl.1 (Nat.le_of_ble_eq_true rfl) dX6_lawed_47 (fun r6 τ5 H locs hT hI => ?_)
        refine lv_iconst (v := 2) hx hb dX6_lawed_50 (by decide) ?_
        refine lv_icmp_ne (tgt := 78) hx hb dX6_lawed_51 (by decide) (fun hc => ?_) (fun hc => ?_)
        · have hT := hT.1 hc
          refine lv_iinc (v := x5 + 1) (lv' := [(5, .int (x5 + 1)), (0, .ref (ad 0)), (1, .int x1), (2, .int x2), (3, .int x3), (4, .int x4)]) hx hb dX6_lawed_78 hl (k := 5) rfl rfl (Nat.le_of_ble_eq_true rfl) rfl (fun ls hl => ?_)
          refine lv_goto (tgt := 35) hx hb dX6_lawed_81 (by decide) ?_
          exact ih x4 (x5 + 1) τ5 _ _ _ hT hI (lv_sub hl [1, 2, 3, 4, 5, 0] rfl)
        · have hT := hT.2 hc
          refine lv_iload_n hx hb dX6_lawed_54 rfl (lv_at hl 1 rfl) ?_
          refine lv_iconst (v := 2) hx hb dX6_lawed_55 (by decide) ?_
          refine lv_icmp_lt (tgt := 69) hx hb dX6_lawed_56 (by decide) (fun hc => ?_) (fun hc => ?_)
          · have hT := hT.1 hc
            refine lv_iload hx hb dX6_lawed_69 (lv_at hl 4 rfl) ?_
            refine lv_iconst (v := 1) hx hb dX6_lawed_71 (by decide) ?_
            refine lv_iload hx hb dX6_lawed_72 (lv_at hl 5 rfl) ?_
            refine lv_ishl hx hb dX6_lawed_74 ?_
            refine lv_ior hx hb dX6_lawed_75 ?_
            refine lv_istore (lv' := [(4, .int (x4 ||| (1 <<< (x5 &&& 31)))), (0, .ref (ad 0)), (1, .int x1), (2, .int x2), (3, .int x3), (5, .int x5)]) hx hb dX6_lawed_76 hl (Nat.le_of_ble_eq_true rfl) rfl (fun ls hl => ?_)
            refine lv_iinc (v := x5 + 1) (lv' := [(5, .int (x5 + 1)), (4, .int (x4 ||| (1 <<< (x5 &&& 31)))), (0, .ref (ad 0)), (1, .int x1), (2, .int x2), (3, .int x3)]) hx hb dX6_lawed_78 hl (k := 5) rfl rfl (Nat.le_of_ble_eq_true rfl) rfl (fun ls hl => ?_)
            refine lv_goto (tgt := 35) hx hb dX6_lawed_81 (by decide) ?_
            exact ih (x4 ||| (1 <<< (x5 &&& 31))) (x5 + 1) τ5 _ _ _ hT hI (lv_sub hl [2, 3, 4, 5, 1, 0] rfl)
          · have hT := hT.2 hc
            refine lv_aload_n hx hb dX6_lawed_59 rfl (lv_at hl 0 rfl) ?_
            refine lv_iload hx hb dX6_lawed_60 (lv_at hl 5 rfl) ?_
            refine tc_mendsOf hC hI hT ⟨Nat.le_of_ble_eq_true rfl, Nat.le_of_ble_eq_true rfl⟩ ⟨Nat.zero_le _, Nat.zero_le _⟩ hl.1 (Nat.le_of_ble_eq_true rfl) dX6_lawed_62 (fun r8 τ7 H locs hT hI => ?_)
            refine lv_iconst (v := 2) hx hb dX6_lawed_65 (by decide) ?_
            refine lv_icmp_lt (tgt := 78) hx hb dX6_lawed_66 (by decide) (fun hc => ?_) (fun hc => ?_)
            · have hT := hT.1 hc
              refine lv_iinc (v := x5 + 1) (lv' := [(5, .int (x5 + 1)), (0, .ref (ad 0)), (1, .int x1), (2, .int x2), (3, .int x3), (4, .int x4)]) hx hb dX6_lawed_78 hl (k := 5) rfl rfl (Nat.le_of_ble_eq_true rfl) rfl (fun ls hl => ?_)
              refine lv_goto (tgt := 35) hx hb dX6_lawed_81 (by decide) ?_
              exact ih x4 (x5 + 1) τ7 _ _ _ hT hI (lv_sub hl [1, 2, 3, 4, 5, 0] rfl)
            · have hT := hT.2 hc
              refine lv_iload hx hb dX6_lawed_69 (lv_at hl 4 rfl) ?_
              refine lv_iconst (v := 1) hx hb dX6_lawed_71 (by decide) ?_
              refine lv_iload hx hb dX6_lawed_72 (lv_at hl 5 rfl) ?_
              refine lv_ishl hx hb dX6_lawed_74 ?_
              refine lv_ior hx hb dX6_lawed_75 ?_
              refine lv_istore (lv' := [(4, .int (x4 ||| (1 <<< (x5 &&& 31)))), (0, .ref (ad 0)), (1, .int x1), (2, .int x2), (3, .int x3), (5, .int x5)]) hx hb dX6_lawed_76 hl (Nat.le_of_ble_eq_true rfl) rfl (fun ls hl => ?_)
              refine lv_iinc (v := x5 + 1) (lv' := [(5, .int (x5 + 1)), (4, .int (x4 ||| (1 <<< (x5 &&& 31)))), (0, .ref (ad 0)), (1, .int x1), (2, .int x2), (3, .int x3)]) hx hb dX6_lawed_78 hl (k := 5) rfl rfl (Nat.le_of_ble_eq_true rfl) rfl (fun ls hl => ?_)
              refine lv_goto (tgt := 35) hx hb dX6_lawed_81 (by decide) ?_
              exact ih (x4 ||| (1 <<< (x5 &&& 31))) (x5 + 1) τ7 _ _ _ hT hI (lv_sub hl [2, 3, 4, 5, 1, 0] rfl)
  unfold T_lawed at hT
  refine lv_iload_n hx hb dX6_lawed_0 rfl (lv_at hl 1 rfl) ?_
  refine lv_i2l hx hb dX6_lawed_1 rfl ?_
  refine lv_lconst (v := 0) hx hb dX6_lawed_2 (by decide) ?_
  refine lv_ldc2 hx hb hC.1.2.2.2.1 (hC.1.2.2.2.2 _ q2286) dX6_lawed_3 ?_
  refine tc_isIn hC hI hT ⟨Nat.le_of_ble_eq_true rfl, Nat.le_of_ble_eq_true rfl⟩ ⟨Nat.zero_le _, Nat.zero_le _⟩ hl.1 (Nat.le_of_ble_eq_true rfl) dX6_lawed_6 (fun r10 τ9 H locs hT hI => ?_)
  refine lv_if_eq (tgt := 22) hx hb dX6_lawed_9 (by decide) (fun hc => ?_) (fun hc => ?_)
  · have hT := hT.1 hc
    refine lv_iconst (v := -1) hx hb dX6_lawed_22 (by decide) ?_
    exact hret _ _ _ _ _ _ hT hI dX6_lawed_23
  · have hT := hT.2 hc
    refine lv_iload_n hx hb dX6_lawed_12 rfl (lv_at hl 2 rfl) ?_
    refine lv_i2l hx hb dX6_lawed_13 rfl ?_
    refine lv_lconst (v := 0) hx hb dX6_lawed_14 (by decide) ?_
    refine lv_lconst (v := 1) hx hb dX6_lawed_15 (by decide) ?_
    refine tc_isIn hC hI hT ⟨Nat.le_of_ble_eq_true rfl, Nat.le_of_ble_eq_true rfl⟩ ⟨Nat.zero_le _, Nat.zero_le _⟩ hl.1 (Nat.le_of_ble_eq_true rfl) dX6_lawed_16 (fun r12 τ11 H locs hT hI => ?_)
    refine lv_if_ne (tgt := 24) hx hb dX6_lawed_19 (by decide) (fun hc => ?_) (fun hc => ?_)
    · have hT := hT.1 hc
      refine lv_aload_n hx hb dX6_lawed_24 rfl (lv_at hl 0 rfl) ?_
      refine tc_standSet hC hI hT ⟨Nat.le_of_ble_eq_true rfl, Nat.le_of_ble_eq_true rfl⟩ ⟨Nat.zero_le _, Nat.zero_le _⟩ hl.1 (Nat.le_of_ble_eq_true rfl) dX6_lawed_25 (fun r14 τ13 H locs hT hI => ?_)
      refine lv_istore_n (lv' := [(3, .int r14), (0, .ref (ad 0)), (1, .int x1), (2, .int x2)]) hx hb dX6_lawed_28 rfl hl (Nat.le_of_ble_eq_true rfl) rfl (fun ls hl => ?_)
      refine lv_iconst (v := 0) hx hb dX6_lawed_29 (by decide) ?_
      refine lv_istore (lv' := [(4, .int 0), (3, .int r14), (0, .ref (ad 0)), (1, .int x1), (2, .int x2)]) hx hb dX6_lawed_30 hl (Nat.le_of_ble_eq_true rfl) rfl (fun ls hl => ?_)
      refine lv_iconst (v := 0) hx hb dX6_lawed_32 (by decide) ?_
      refine lv_istore (lv' := [(5, .int 0), (4, .int 0), (3, .int r14), (0, .ref (ad 0)), (1, .int x1), (2, .int x2)]) hx hb dX6_lawed_33 hl (Nat.le_of_ble_eq_true rfl) rfl (fun ls hl => ?_)
      obtain ⟨n35, hT⟩ := hT
      exact w_35 x1 x2 r14 n35 0 0 τ13 _ _ _ hT hI (lv_sub hl [3, 4, 5, 2, 1, 0] rfl)
    · have hT := hT.2 hc
      refine lv_iconst (v := -1) hx hb dX6_lawed_22 (by decide) ?_
      exact hret _ _ _ _ _ _ hT hI dX6_lawed_23
set_option maxHeartbeats 4000000 in
set_option maxRecDepth 100000 in
theorem met_areDays (l : Launch) (D : va_G) (dA : Nat → ClassId) (ad : Nat → Nat) (hJ : rgJ twL ad) (sz : Nat) (τ : Sto) (x1 : Int32) (K : Int32 → Sto → Prop) (hT : T_areDays τ x1 K) : Met l yX6_areDays (ws_ yX6_areDays cX6_areDays 3 (some .boolean)) ({ frames := 3, cells := 0, slots := 0, locals := 60 }) (va_Pc [.ref (ad 0), .int x1] (rgU D vwCl dA twL ad sz τ)) (va_Qi K (rgU D vwCl dA twL ad sz) (rgAd twL ad)) 0 0 (rgAd twL ad) := by
  refine tw_metz hJ (by decide) rfl (Nat.le_of_ble_eq_true rfl) ?_
  intro p e s m args below meth c Q hC hret hI ls hl
  have hx := hC.1.1
  have hb := hC.1.2.1
  have hl : lv_has ls 3 [(0, .ref (ad 0)), (1, .int x1)] := hl
  have w_16 : ∀ (x1 : Int32) (n : Nat) (x2 : Int32) (τ : Sto) (H : Heap) (locs : List Loc) (ls : Array Slot), T_areDays_16 K x1 n x2 τ → tI D dA ad sz s.heap τ H locs → lv_has ls 3 [(0, .ref (ad 0)), (1, .int x1), (2, .int x2)] → W p l e ({ frames := 3, cells := 0, slots := 0, locals := 60 }) s m args below meth c H locs 0 0 Q (F0 m 16 ls []) := by
    intro x1 n
    induction n with
    | zero => intro x2 τ H locs ls hT; exact hT.elim
    | succ n ih =>
      intro x2 τ H locs ls hT hI hl
      unfold T_areDays_16 at hT
      refine lv_iload_n hx hb dX6_areDays_16 rfl (lv_at hl 2 rfl) ?_
      refine lv_iload_n hx hb dX6_areDays_17 rfl (lv_at hl 1 rfl) ?_
      refine lv_icmp_ge (tgt := 64) hx hb dX6_areDays_18 (by decide) (fun hc => ?_) (fun hc => ?_)
      · have hT := hT.1 hc
        refine lv_aload_n hx hb dX6_areDays_64 rfl (lv_at hl 0 rfl) ?_
        refine lv_aload_n hx hb dX6_areDays_65 rfl (lv_at hl 0 rfl) ?_
        refine tg_0 hC hI dX6_areDays_66 ?_
        refine lv_iload_n hx hb dX6_areDays_69 rfl (lv_at hl 1 rfl) ?_
        refine lv_iconst (v := 1) hx hb dX6_areDays_70 (by decide) ?_
        refine lv_isub hx hb dX6_areDays_71 ?_
        refine tw_iald hC hI tl_1 hT dX6_areDays_72 (fun hT => ?_)
        refine lv_iconst (v := 1) hx hb dX6_areDays_73 (by decide) ?_
        refine lv_bipush (v := 30) hx hb dX6_areDays_74 (by decide) ?_
        refine tc_isAhead hC hI hT ⟨Nat.le_of_ble_eq_true rfl, Nat.le_of_ble_eq_true rfl⟩ ⟨Nat.zero_le _, Nat.zero_le _⟩ hl.1 (Nat.le_of_ble_eq_true rfl) dX6_areDays_76 (fun r2 τ1 H locs hT hI => ?_)
        exact hret _ _ _ _ _ _ hT.1 hT.2 hI dX6_areDays_79
      · have hT := hT.2 hc
        refine lv_aload_n hx hb dX6_areDays_21 rfl (lv_at hl 0 rfl) ?_
        refine tg_0 hC hI dX6_areDays_22 ?_
        refine lv_iload_n hx hb dX6_areDays_25 rfl (lv_at hl 2 rfl) ?_
        refine tw_iald hC hI tl_1 hT dX6_areDays_26 (fun hT => ?_)
        refine lv_i2l hx hb dX6_areDays_27 rfl ?_
        refine lv_iload_n hx hb dX6_areDays_28 rfl (lv_at hl 2 rfl) ?_
        refine lv_if_ne (tgt := 36) hx hb dX6_areDays_29 (by decide) (fun hc => ?_) (fun hc => ?_)
        · have hT := hT.1 hc
          refine lv_aload_n hx hb dX6_areDays_36 rfl (lv_at hl 0 rfl) ?_
          refine tg_0 hC hI dX6_areDays_37 ?_
          refine lv_iload_n hx hb dX6_areDays_40 rfl (lv_at hl 2 rfl) ?_
          refine lv_iconst (v := 1) hx hb dX6_areDays_41 (by decide) ?_
          refine lv_isub hx hb dX6_areDays_42 ?_
          refine tw_iald hC hI tl_1 hT dX6_areDays_43 (fun hT => ?_)
          refine lv_iconst (v := 1) hx hb dX6_areDays_44 (by decide) ?_
          refine lv_iadd hx hb dX6_areDays_45 ?_
          refine lv_i2l hx hb dX6_areDays_46 rfl ?_
          refine lv_ldc2 hx hb hC.1.2.2.2.1 (hC.1.2.2.2.2 _ q2459) dX6_areDays_47 ?_
          refine tc_isIn hC hI hT ⟨Nat.le_of_ble_eq_true rfl, Nat.le_of_ble_eq_true rfl⟩ ⟨Nat.zero_le _, Nat.zero_le _⟩ hl.1 (Nat.le_of_ble_eq_true rfl) dX6_areDays_50 (fun r4 τ3 H locs hT hI => ?_)
          refine lv_if_ne (tgt := 58) hx hb dX6_areDays_53 (by decide) (fun hc => ?_) (fun hc => ?_)
          · have hT := hT.1 hc
            refine lv_iinc (v := x2 + 1) (lv' := [(2, .int (x2 + 1)), (0, .ref (ad 0)), (1, .int x1)]) hx hb dX6_areDays_58 hl (k := 2) rfl rfl (Nat.le_of_ble_eq_true rfl) rfl (fun ls hl => ?_)
            refine lv_goto (tgt := 16) hx hb dX6_areDays_61 (by decide) ?_
            exact ih (x2 + 1) τ3 _ _ _ hT hI (lv_sub hl [1, 2, 0] rfl)
          · have hT := hT.2 hc
            refine lv_iconst (v := 0) hx hb dX6_areDays_56 (by decide) ?_
            exact hret _ _ _ _ _ _ (by decide) hT hI dX6_areDays_57
        · have hT := hT.2 hc
          refine lv_lconst (v := 1) hx hb dX6_areDays_32 (by decide) ?_
          refine lv_goto (tgt := 47) hx hb dX6_areDays_33 (by decide) ?_
          refine lv_ldc2 hx hb hC.1.2.2.2.1 (hC.1.2.2.2.2 _ q2459) dX6_areDays_47 ?_
          refine tc_isIn hC hI hT ⟨Nat.le_of_ble_eq_true rfl, Nat.le_of_ble_eq_true rfl⟩ ⟨Nat.zero_le _, Nat.zero_le _⟩ hl.1 (Nat.le_of_ble_eq_true rfl) dX6_areDays_50 (fun r6 τ5 H locs hT hI => ?_)
          refine lv_if_ne (tgt := 58) hx hb dX6_areDays_53 (by decide) (fun hc => ?_) (fun hc => ?_)
          · have hT := hT.1 hc
            refine lv_iinc (v := x2 + 1) (lv' := [(2, .int (x2 + 1)), (0, .ref (ad 0)), (1, .int x1)]) hx hb dX6_areDays_58 hl (k := 2) rfl rfl (Nat.le_of_ble_eq_true rfl) rfl (fun ls hl => ?_)
            refine lv_goto (tgt := 16) hx hb dX6_areDays_61 (by decide) ?_
            exact ih (x2 + 1) τ5 _ _ _ hT hI (lv_sub hl [1, 2, 0] rfl)
          · have hT := hT.2 hc
            refine lv_iconst (v := 0) hx hb dX6_areDays_56 (by decide) ?_
            exact hret _ _ _ _ _ _ (by decide) hT hI dX6_areDays_57
  unfold T_areDays at hT
  refine lv_iload_n hx hb dX6_areDays_0 rfl (lv_at hl 1 rfl) ?_
  refine lv_i2l hx hb dX6_areDays_1 rfl ?_
  refine lv_lconst (v := 1) hx hb dX6_areDays_2 (by decide) ?_
  refine lv_ldc2 hx hb hC.1.2.2.2.1 (hC.1.2.2.2.2 _ q2458) dX6_areDays_3 ?_
  refine tc_isIn hC hI hT ⟨Nat.le_of_ble_eq_true rfl, Nat.le_of_ble_eq_true rfl⟩ ⟨Nat.zero_le _, Nat.zero_le _⟩ hl.1 (Nat.le_of_ble_eq_true rfl) dX6_areDays_6 (fun r8 τ7 H locs hT hI => ?_)
  refine lv_if_ne (tgt := 14) hx hb dX6_areDays_9 (by decide) (fun hc => ?_) (fun hc => ?_)
  · have hT := hT.1 hc
    refine lv_iconst (v := 0) hx hb dX6_areDays_14 (by decide) ?_
    refine lv_istore_n (lv' := [(2, .int 0), (0, .ref (ad 0)), (1, .int x1)]) hx hb dX6_areDays_15 rfl hl (Nat.le_of_ble_eq_true rfl) rfl (fun ls hl => ?_)
    obtain ⟨n16, hT⟩ := hT
    exact w_16 x1 n16 0 τ7 _ _ _ hT hI (lv_sub hl [1, 2, 0] rfl)
  · have hT := hT.2 hc
    refine lv_iconst (v := 0) hx hb dX6_areDays_12 (by decide) ?_
    exact hret _ _ _ _ _ _ (by decide) hT hI dX6_areDays_13
theorem tc_areDays {p : Program} {l : Launch} {e : Env} {R : Room} {s : State} {m : MethodId} {args : Array Value} {below : List Frame} {meth : Method} {c : Code} {H : Heap} {locs : List Loc} {cells slots : Nat} {Q : State → Prop} {cc : ByteArray} {nL : Nat} {D : va_G} {dA : Nat → ClassId} {ad : Nat → Nat} {τ : Sto} {pc sz : Nat} {ls : Array Slot} {rest : List Value} {H0 : Heap} {x1 : Int32} {K : Int32 → Sto → Prop} (hC : tC p m c cc nL s args D dA ad) (hI : tI D dA ad sz H0 τ H locs) (hT : T_areDays τ x1 K) (hR : 3 + 1 ≤ R.frames ∧ 8 + (3 + 11) + 60 ≤ R.locals) (hf : cells ≤ R.cells ∧ slots ≤ R.slots) (hsz : ls.size = nL) (hroom : (rest.map fun v => v.category).sum ≤ 8) (hdg : decode cc pc = .ok (.invokevirtual 558, 3)) (kk : ∀ (r : Int32) (τ1 : Sto) (H1 : Heap) (locs1 : List Loc), K r τ1 → tI D dA ad sz H0 τ1 H1 locs1 → W p l e R s m args below meth c H1 locs1 cells slots Q (F0 m (pc + 3) ls (.int r :: rest))) : W p l e R s m args below meth c H locs cells slots Q (F0 m pc ls (.int x1 :: .ref (ad 0) :: rest)) :=
  rg_calli (rg_runV hC.1 hC.2.1 hI.1 hI.2.1 tl_0 rfl (met_areDays l D dA ad hC.2.2 sz τ x1 K hT) (lw_V q2454 q2456 qs144 q170 q2457) 1 (by decide +kernel) ⟨rfl, rfl⟩ hR rfl hsz rfl hroom hf hdg) hI.2.2 (fun r τ1 H1 l1 hk hz hP hS => kk r τ1 H1 l1 hk ⟨hP, hz, hS⟩)
set_option maxHeartbeats 4000000 in
set_option maxRecDepth 100000 in
theorem met_refuses (l : Launch) (D : va_G) (dA : Nat → ClassId) (ad : Nat → Nat) (hJ : rgJ twL ad) (sz : Nat) (τ : Sto) (x1 : Int32) (K : Int32 → Sto → Prop) (hT : T_refuses τ x1 K) : Met l yX6_refuses (ws_ yX6_refuses cX6_refuses 2 (some .int)) ({ frames := 1, cells := 0, slots := 0, locals := 12 }) (va_Pc [.ref (ad 0), .int x1] (rgU D vwCl dA twL ad sz τ)) (va_Qi K (rgU D vwCl dA twL ad sz) (rgAd twL ad)) 0 0 (rgAd twL ad) := by
  refine tw_meti hJ (by decide) rfl (Nat.le_of_ble_eq_true rfl) ?_
  intro p e s m args below meth c Q hC hret hI ls hl
  have hx := hC.1.1
  have hb := hC.1.2.1
  have hl : lv_has ls 2 [(0, .ref (ad 0)), (1, .int x1)] := hl
  unfold T_refuses at hT
  refine lv_aload_n hx hb dX6_refuses_0 rfl (lv_at hl 0 rfl) ?_
  refine tg_9 hC hI dX6_refuses_1 ?_
  refine lv_iload_n hx hb dX6_refuses_4 rfl (lv_at hl 1 rfl) ?_
  refine lv_dup2_11 hx hb dX6_refuses_5 rfl rfl ?_
  refine tw_iald hC hI tl_10 hT dX6_refuses_6 (fun hT => ?_)
  refine lv_iconst (v := 1) hx hb dX6_refuses_7 (by decide) ?_
  refine lv_iadd hx hb dX6_refuses_8 ?_
  refine tw_iast hC hI tl_10 hT dX6_refuses_9 (fun τ1 H locs hT hI => ?_)
  refine lv_iconst (v := -1) hx hb dX6_refuses_10 (by decide) ?_
  exact hret _ _ _ _ _ _ hT hI dX6_refuses_11
theorem tc_refuses {p : Program} {l : Launch} {e : Env} {R : Room} {s : State} {m : MethodId} {args : Array Value} {below : List Frame} {meth : Method} {c : Code} {H : Heap} {locs : List Loc} {cells slots : Nat} {Q : State → Prop} {cc : ByteArray} {nL : Nat} {D : va_G} {dA : Nat → ClassId} {ad : Nat → Nat} {τ : Sto} {pc sz : Nat} {ls : Array Slot} {rest : List Value} {H0 : Heap} {x1 : Int32} {K : Int32 → Sto → Prop} (hC : tC p m c cc nL s args D dA ad) (hI : tI D dA ad sz H0 τ H locs) (hT : T_refuses τ x1 K) (hR : 1 + 1 ≤ R.frames ∧ 8 + (2 + 11) + 12 ≤ R.locals) (hf : cells ≤ R.cells ∧ slots ≤ R.slots) (hsz : ls.size = nL) (hroom : (rest.map fun v => v.category).sum ≤ 8) (hdg : decode cc pc = .ok (.invokevirtual 561, 3)) (kk : ∀ (r : Int32) (τ1 : Sto) (H1 : Heap) (locs1 : List Loc), K r τ1 → tI D dA ad sz H0 τ1 H1 locs1 → W p l e R s m args below meth c H1 locs1 cells slots Q (F0 m (pc + 3) ls (.int r :: rest))) : W p l e R s m args below meth c H locs cells slots Q (F0 m pc ls (.int x1 :: .ref (ad 0) :: rest)) :=
  rg_calli (rg_runV hC.1 hC.2.1 hI.1 hI.2.1 tl_0 rfl (met_refuses l D dA ad hC.2.2 sz τ x1 K hT) (lw_V q2460 q2462 qs145 q170 q2463) 1 (by decide +kernel) ⟨rfl, rfl⟩ hR rfl hsz rfl hroom hf hdg) hI.2.2 (fun r τ1 H1 l1 hk hz hP hS => kk r τ1 H1 l1 hk ⟨hP, hz, hS⟩)
set_option maxHeartbeats 4000000 in
set_option maxRecDepth 100000 in
theorem met_laysBreaks (l : Launch) (D : va_G) (dA : Nat → ClassId) (ad : Nat → Nat) (hJ : rgJ twL ad) (sz : Nat) (τ : Sto) (x1 : Int32) (x2 : Int32) (K : Sto → Prop) (hT : T_laysBreaks τ x1 x2 K) : Met l yX6_laysBreaks (ws_ yX6_laysBreaks cX6_laysBreaks 5 (none)) ({ frames := 8, cells := 0, slots := 0, locals := 180 }) (va_Pc [.ref (ad 0), .int x1, .int x2] (rgU D vwCl dA twL ad sz τ)) (va_Qv K (rgU D vwCl dA twL ad sz) (rgAd twL ad)) 0 0 (rgAd twL ad) := by
  refine tw_metv hJ (by decide) rfl (Nat.le_of_ble_eq_true rfl) ?_
  intro p e s m args below meth c Q hC hret hI ls hl
  have hx := hC.1.1
  have hb := hC.1.2.1
  have hl : lv_has ls 5 [(0, .ref (ad 0)), (1, .int x1), (2, .int x2)] := hl
  have w_25 : ∀ (x1 : Int32) (x2 : Int32) (k6 : Int32 → Sto → Prop), (∀ (x3 : Int32) (τ : Sto) (H : Heap) (locs : List Loc) (ls : Array Slot), k6 x3 τ → tI D dA ad sz s.heap τ H locs → lv_has ls 5 [(0, .ref (ad 0)), (1, .int x1), (2, .int x2), (3, .int x3)] → W p l e ({ frames := 8, cells := 0, slots := 0, locals := 180 }) s m args below meth c H locs 0 0 Q (F0 m 6 ls [])) → ∀ (x3 : Int32) (n : Nat) (x4 : Int32) (τ : Sto) (H : Heap) (locs : List Loc) (ls : Array Slot), T_laysBreaks_25 K k6 x1 x2 x3 n x4 τ → tI D dA ad sz s.heap τ H locs → lv_has ls 5 [(0, .ref (ad 0)), (1, .int x1), (2, .int x2), (3, .int x3), (4, .int x4)] → W p l e ({ frames := 8, cells := 0, slots := 0, locals := 180 }) s m args below meth c H locs 0 0 Q (F0 m 25 ls []) := by
    intro x1 x2 k6 hk6 x3 n
    induction n with
    | zero => intro x4 τ H locs ls hT; exact hT.elim
    | succ n ih =>
      intro x4 τ H locs ls hT hI hl
      unfold T_laysBreaks_25 at hT
      refine lv_iload hx hb dX6_laysBreaks_25 (lv_at hl 4 rfl) ?_
      refine lv_iload_n hx hb dX6_laysBreaks_27 rfl (lv_at hl 2 rfl) ?_
      refine lv_icmp_gt (tgt := 59) hx hb dX6_laysBreaks_28 (by decide) (fun hc => ?_) (fun hc => ?_)
      · have hT := hT.1 hc
        refine lv_aload_n hx hb dX6_laysBreaks_59 rfl (lv_at hl 0 rfl) ?_
        refine tc_triesAnew hC hI hT ⟨Nat.le_of_ble_eq_true rfl, Nat.le_of_ble_eq_true rfl⟩ ⟨Nat.zero_le _, Nat.zero_le _⟩ hl.1 (Nat.le_of_ble_eq_true rfl) dX6_laysBreaks_60 (fun τ1 H locs hT hI => ?_)
        refine lv_iinc (v := x3 + 1) (lv' := [(3, .int (x3 + 1)), (0, .ref (ad 0)), (1, .int x1), (2, .int x2), (4, .int x4)]) hx hb dX6_laysBreaks_63 hl (k := 3) rfl rfl (Nat.le_of_ble_eq_true rfl) rfl (fun ls hl => ?_)
        refine lv_goto (tgt := 6) hx hb dX6_laysBreaks_66 (by decide) ?_
        exact hk6 (x3 + 1) τ1 _ _ _ hT hI (lv_sub hl [1, 2, 3, 0] rfl)
      · have hT := hT.2 hc
        refine lv_aload_n hx hb dX6_laysBreaks_31 rfl (lv_at hl 0 rfl) ?_
        refine tc_dayGoes hC hI hT ⟨Nat.le_of_ble_eq_true rfl, Nat.le_of_ble_eq_true rfl⟩ ⟨Nat.zero_le _, Nat.zero_le _⟩ hl.1 (Nat.le_of_ble_eq_true rfl) dX6_laysBreaks_32 (fun τ2 H locs hT hI => ?_)
        refine lv_aload_n hx hb dX6_laysBreaks_35 rfl (lv_at hl 0 rfl) ?_
        refine tg_63 hC hI dX6_laysBreaks_36 ?_
        refine lv_bipush (v := 31) hx hb dX6_laysBreaks_39 (by decide) ?_
        refine lv_iload_n hx hb dX6_laysBreaks_41 rfl (lv_at hl 3 rfl) ?_
        refine lv_imul hx hb dX6_laysBreaks_42 ?_
        refine lv_iload hx hb dX6_laysBreaks_43 (lv_at hl 4 rfl) ?_
        refine lv_iadd hx hb dX6_laysBreaks_45 ?_
        refine lv_aload_n hx hb dX6_laysBreaks_46 rfl (lv_at hl 0 rfl) ?_
        refine tg_59 hC hI dX6_laysBreaks_47 ?_
        refine lv_iload_n hx hb dX6_laysBreaks_50 rfl (lv_at hl 1 rfl) ?_
        refine tw_zald hC hI tl_60 hT dX6_laysBreaks_51 (fun hT => ?_)
        refine tw_zast hC hI tl_64 hT dX6_laysBreaks_52 (fun τ3 H locs hT hI => ?_)
        refine lv_iinc (v := x4 + 1) (lv' := [(4, .int (x4 + 1)), (0, .ref (ad 0)), (1, .int x1), (2, .int x2), (3, .int x3)]) hx hb dX6_laysBreaks_53 hl (k := 4) rfl rfl (Nat.le_of_ble_eq_true rfl) rfl (fun ls hl => ?_)
        refine lv_goto (tgt := 25) hx hb dX6_laysBreaks_56 (by decide) ?_
        exact ih (x4 + 1) τ3 _ _ _ hT hI (lv_sub hl [1, 2, 3, 4, 0] rfl)
  have w_6 : ∀ (x1 : Int32) (x2 : Int32) (n : Nat) (x3 : Int32) (τ : Sto) (H : Heap) (locs : List Loc) (ls : Array Slot), T_laysBreaks_6 K x1 x2 n x3 τ → tI D dA ad sz s.heap τ H locs → lv_has ls 5 [(0, .ref (ad 0)), (1, .int x1), (2, .int x2), (3, .int x3)] → W p l e ({ frames := 8, cells := 0, slots := 0, locals := 180 }) s m args below meth c H locs 0 0 Q (F0 m 6 ls []) := by
    intro x1 x2 n
    induction n with
    | zero => intro x3 τ H locs ls hT; exact hT.elim
    | succ n ih =>
      intro x3 τ H locs ls hT hI hl
      unfold T_laysBreaks_6 at hT
      refine lv_iload_n hx hb dX6_laysBreaks_6 rfl (lv_at hl 3 rfl) ?_
      refine lv_bipush (v := 10) hx hb dX6_laysBreaks_7 (by decide) ?_
      refine lv_icmp_ge (tgt := 69) hx hb dX6_laysBreaks_9 (by decide) (fun hc => ?_) (fun hc => ?_)
      · have hT := hT.1 hc
        refine lv_aload_n hx hb dX6_laysBreaks_69 rfl (lv_at hl 0 rfl) ?_
        refine lv_iconst (v := -1) hx hb dX6_laysBreaks_70 (by decide) ?_
        refine tp_53 hC hI hT dX6_laysBreaks_71 (fun τ4 H locs hT hI => ?_)
        refine lv_aload_n hx hb dX6_laysBreaks_74 rfl (lv_at hl 0 rfl) ?_
        refine tc_takesBack hC hI hT ⟨Nat.le_of_ble_eq_true rfl, Nat.le_of_ble_eq_true rfl⟩ ⟨Nat.zero_le _, Nat.zero_le _⟩ hl.1 (Nat.le_of_ble_eq_true rfl) dX6_laysBreaks_75 (fun τ5 H locs hT hI => ?_)
        exact hret _ _ _ _ _ hT hI dX6_laysBreaks_78
      · have hT := hT.2 hc
        refine lv_aload_n hx hb dX6_laysBreaks_12 rfl (lv_at hl 0 rfl) ?_
        refine lv_iload_n hx hb dX6_laysBreaks_13 rfl (lv_at hl 1 rfl) ?_
        refine tp_53 hC hI hT dX6_laysBreaks_14 (fun τ6 H locs hT hI => ?_)
        refine lv_aload_n hx hb dX6_laysBreaks_17 rfl (lv_at hl 0 rfl) ?_
        refine lv_iload_n hx hb dX6_laysBreaks_18 rfl (lv_at hl 3 rfl) ?_
        refine tp_54 hC hI hT dX6_laysBreaks_19 (fun τ7 H locs hT hI => ?_)
        refine lv_iconst (v := 1) hx hb dX6_laysBreaks_22 (by decide) ?_
        refine lv_istore (lv' := [(4, .int 1), (0, .ref (ad 0)), (1, .int x1), (2, .int x2), (3, .int x3)]) hx hb dX6_laysBreaks_23 hl (Nat.le_of_ble_eq_true rfl) rfl (fun ls hl => ?_)
        obtain ⟨n25, hT⟩ := hT
        exact w_25 x1 x2 (T_laysBreaks_6 K x1 x2 n) (ih) x3 n25 1 τ7 _ _ _ hT hI (lv_sub hl [1, 2, 3, 4, 0] rfl)
  unfold T_laysBreaks at hT
  refine lv_aload_n hx hb dX6_laysBreaks_0 rfl (lv_at hl 0 rfl) ?_
  refine tc_putsAside hC hI hT ⟨Nat.le_of_ble_eq_true rfl, Nat.le_of_ble_eq_true rfl⟩ ⟨Nat.zero_le _, Nat.zero_le _⟩ hl.1 (Nat.le_of_ble_eq_true rfl) dX6_laysBreaks_1 (fun τ8 H locs hT hI => ?_)
  refine lv_iconst (v := 0) hx hb dX6_laysBreaks_4 (by decide) ?_
  refine lv_istore_n (lv' := [(3, .int 0), (0, .ref (ad 0)), (1, .int x1), (2, .int x2)]) hx hb dX6_laysBreaks_5 rfl hl (Nat.le_of_ble_eq_true rfl) rfl (fun ls hl => ?_)
  obtain ⟨n6, hT⟩ := hT
  exact w_6 x1 x2 n6 0 τ8 _ _ _ hT hI (lv_sub hl [1, 2, 3, 0] rfl)
theorem tc_laysBreaks {p : Program} {l : Launch} {e : Env} {R : Room} {s : State} {m : MethodId} {args : Array Value} {below : List Frame} {meth : Method} {c : Code} {H : Heap} {locs : List Loc} {cells slots : Nat} {Q : State → Prop} {cc : ByteArray} {nL : Nat} {D : va_G} {dA : Nat → ClassId} {ad : Nat → Nat} {τ : Sto} {pc sz : Nat} {ls : Array Slot} {rest : List Value} {H0 : Heap} {x1 : Int32} {x2 : Int32} {K : Sto → Prop} (hC : tC p m c cc nL s args D dA ad) (hI : tI D dA ad sz H0 τ H locs) (hT : T_laysBreaks τ x1 x2 K) (hR : 8 + 1 ≤ R.frames ∧ 8 + (5 + 11) + 180 ≤ R.locals) (hf : cells ≤ R.cells ∧ slots ≤ R.slots) (hsz : ls.size = nL) (hroom : (rest.map fun v => v.category).sum ≤ 8) (hdg : decode cc pc = .ok (.invokevirtual 564, 3)) (kk : ∀ (τ1 : Sto) (H1 : Heap) (locs1 : List Loc), K τ1 → tI D dA ad sz H0 τ1 H1 locs1 → W p l e R s m args below meth c H1 locs1 cells slots Q (F0 m (pc + 3) ls (rest))) : W p l e R s m args below meth c H locs cells slots Q (F0 m pc ls (.int x2 :: .int x1 :: .ref (ad 0) :: rest)) :=
  rg_callv (rg_runV hC.1 hC.2.1 hI.1 hI.2.1 tl_0 rfl (met_laysBreaks l D dA ad hC.2.2 sz τ x1 x2 K hT) (lw_V q2464 q2466 qs146 q170 q2467) 2 (by decide +kernel) ⟨rfl, rfl⟩ hR rfl hsz rfl hroom hf hdg) hI.2.2 (fun τ1 H1 l1 hk hz hP hS => kk τ1 H1 l1 hk ⟨hP, hz, hS⟩)
set_option maxHeartbeats 4000000 in
set_option maxRecDepth 100000 in
theorem met_see (l : Launch) (D : va_G) (dA : Nat → ClassId) (ad : Nat → Nat) (hJ : rgJ twL ad) (sz : Nat) (τ : Sto) (x1 : Int32) (K : Int32 → Sto → Prop) (hT : T_see τ x1 K) : Met l yX6_see (ws_ yX6_see cX6_see 9 (some .int)) ({ frames := 9, cells := 0, slots := 0, locals := 204 }) (va_Pc [.ref (ad 0), .int x1] (rgU D vwCl dA twL ad sz τ)) (va_Qi K (rgU D vwCl dA twL ad sz) (rgAd twL ad)) 0 0 (rgAd twL ad) := by
  refine tw_meti hJ (by decide) rfl (Nat.le_of_ble_eq_true rfl) ?_
  intro p e s m args below meth c Q hC hret hI ls hl
  have hx := hC.1.1
  have hb := hC.1.2.1
  have hl : lv_has ls 9 [(0, .ref (ad 0)), (1, .int x1)] := hl
  have w_106 : ∀ (x2 : Int32) (x3 : Int32) (x4 : Int32) (k50 : Int32 → Int32 → Sto → Prop) (k66 : Int32 → Int32 → Int32 → Sto → Prop), (∀ (x3 : Int32) (x4 : Int32) (τ : Sto) (H : Heap) (locs : List Loc) (ls : Array Slot), k50 x3 x4 τ → tI D dA ad sz s.heap τ H locs → lv_has ls 9 [(0, .ref (ad 0)), (2, .int x2), (3, .int x3), (4, .int x4)] → W p l e ({ frames := 9, cells := 0, slots := 0, locals := 204 }) s m args below meth c H locs 0 0 Q (F0 m 50 ls [])) → (∀ (x5 : Int32) (x6 : Int32) (x7 : Int32) (τ : Sto) (H : Heap) (locs : List Loc) (ls : Array Slot), k66 x5 x6 x7 τ → tI D dA ad sz s.heap τ H locs → lv_has ls 9 [(0, .ref (ad 0)), (2, .int x2), (3, .int x3), (4, .int x4), (5, .int x5), (6, .int x6), (7, .int x7)] → W p l e ({ frames := 9, cells := 0, slots := 0, locals := 204 }) s m args below meth c H locs 0 0 Q (F0 m 66 ls [])) → ∀ (x5 : Int32) (x6 : Int32) (x7 : Int32) (x8 : Int32) (τ : Sto) (H : Heap) (locs : List Loc) (ls : Array Slot), T_see_106 K k50 k66 x2 x3 x4 x5 x6 x7 x8 τ → tI D dA ad sz s.heap τ H locs → lv_has ls 9 [(0, .ref (ad 0)), (2, .int x2), (3, .int x3), (4, .int x4), (5, .int x5), (6, .int x6), (7, .int x7), (8, .int x8)] → W p l e ({ frames := 9, cells := 0, slots := 0, locals := 204 }) s m args below meth c H locs 0 0 Q (F0 m 106 ls []) := by
    intro x2 x3 x4 k50 k66 hk50 hk66 x5 x6 x7 x8 τ H locs ls hT hI hl
    unfold T_see_106 at hT
    refine lv_iload hx hb dX6_see_106 (lv_at hl 4 rfl) ?_
    refine lv_if_eq (tgt := 133) hx hb dX6_see_108 (by decide) (fun hc => ?_) (fun hc => ?_)
    · have hT := hT.1 hc
      refine lv_iconst (v := 0) hx hb dX6_see_133 (by decide) ?_
      refine lv_istore (lv' := [(5, .int 0), (0, .ref (ad 0)), (2, .int x2), (3, .int x3), (4, .int x4), (6, .int x6), (7, .int x7), (8, .int x8)]) hx hb dX6_see_134 hl (Nat.le_of_ble_eq_true rfl) rfl (fun ls hl => ?_)
      refine lv_iinc (v := x7 + 1) (lv' := [(7, .int (x7 + 1)), (5, .int 0), (0, .ref (ad 0)), (2, .int x2), (3, .int x3), (4, .int x4), (6, .int x6), (8, .int x8)]) hx hb dX6_see_136 hl (k := 6) rfl rfl (Nat.le_of_ble_eq_true rfl) rfl (fun ls hl => ?_)
      refine lv_goto (tgt := 66) hx hb dX6_see_139 (by decide) ?_
      exact hk66 0 x6 (x7 + 1) τ _ _ _ hT hI (lv_sub hl [2, 3, 4, 5, 1, 6, 0] rfl)
    · have hT := hT.2 hc
      refine lv_iload hx hb dX6_see_111 (lv_at hl 7 rfl) ?_
      refine lv_aload_n hx hb dX6_see_113 rfl (lv_at hl 0 rfl) ?_
      refine tg_63 hC hI dX6_see_114 ?_
      refine lv_bipush (v := 31) hx hb dX6_see_117 (by decide) ?_
      refine lv_iload hx hb dX6_see_119 (lv_at hl 3 rfl) ?_
      refine lv_imul hx hb dX6_see_121 ?_
      refine lv_iload hx hb dX6_see_122 (lv_at hl 6 rfl) ?_
      refine lv_iadd hx hb dX6_see_124 ?_
      refine tw_zald hC hI tl_64 hT dX6_see_125 (fun hT => ?_)
      refine lv_icmp_ne (tgt := 133) hx hb dX6_see_126 (by decide) (fun hc => ?_) (fun hc => ?_)
      · have hT := hT.1 hc
        refine lv_iconst (v := 0) hx hb dX6_see_133 (by decide) ?_
        refine lv_istore (lv' := [(5, .int 0), (0, .ref (ad 0)), (2, .int x2), (3, .int x3), (4, .int x4), (6, .int x6), (7, .int x7), (8, .int x8)]) hx hb dX6_see_134 hl (Nat.le_of_ble_eq_true rfl) rfl (fun ls hl => ?_)
        refine lv_iinc (v := x7 + 1) (lv' := [(7, .int (x7 + 1)), (5, .int 0), (0, .ref (ad 0)), (2, .int x2), (3, .int x3), (4, .int x4), (6, .int x6), (8, .int x8)]) hx hb dX6_see_136 hl (k := 6) rfl rfl (Nat.le_of_ble_eq_true rfl) rfl (fun ls hl => ?_)
        refine lv_goto (tgt := 66) hx hb dX6_see_139 (by decide) ?_
        exact hk66 0 x6 (x7 + 1) τ _ _ _ hT hI (lv_sub hl [2, 3, 4, 5, 1, 6, 0] rfl)
      · have hT := hT.2 hc
        refine lv_iconst (v := 1) hx hb dX6_see_129 (by decide) ?_
        refine lv_goto (tgt := 134) hx hb dX6_see_130 (by decide) ?_
        refine lv_istore (lv' := [(5, .int 1), (0, .ref (ad 0)), (2, .int x2), (3, .int x3), (4, .int x4), (6, .int x6), (7, .int x7), (8, .int x8)]) hx hb dX6_see_134 hl (Nat.le_of_ble_eq_true rfl) rfl (fun ls hl => ?_)
        refine lv_iinc (v := x7 + 1) (lv' := [(7, .int (x7 + 1)), (5, .int 1), (0, .ref (ad 0)), (2, .int x2), (3, .int x3), (4, .int x4), (6, .int x6), (8, .int x8)]) hx hb dX6_see_136 hl (k := 6) rfl rfl (Nat.le_of_ble_eq_true rfl) rfl (fun ls hl => ?_)
        refine lv_goto (tgt := 66) hx hb dX6_see_139 (by decide) ?_
        exact hk66 1 x6 (x7 + 1) τ _ _ _ hT hI (lv_sub hl [2, 3, 4, 5, 1, 6, 0] rfl)
  have w_66 : ∀ (x2 : Int32) (k50 : Int32 → Int32 → Sto → Prop), (∀ (x3 : Int32) (x4 : Int32) (τ : Sto) (H : Heap) (locs : List Loc) (ls : Array Slot), k50 x3 x4 τ → tI D dA ad sz s.heap τ H locs → lv_has ls 9 [(0, .ref (ad 0)), (2, .int x2), (3, .int x3), (4, .int x4)] → W p l e ({ frames := 9, cells := 0, slots := 0, locals := 204 }) s m args below meth c H locs 0 0 Q (F0 m 50 ls [])) → ∀ (x3 : Int32) (x4 : Int32) (n : Nat) (x5 : Int32) (x6 : Int32) (x7 : Int32) (τ : Sto) (H : Heap) (locs : List Loc) (ls : Array Slot), T_see_66 K k50 x2 x3 x4 n x5 x6 x7 τ → tI D dA ad sz s.heap τ H locs → lv_has ls 9 [(0, .ref (ad 0)), (2, .int x2), (3, .int x3), (4, .int x4), (5, .int x5), (6, .int x6), (7, .int x7)] → W p l e ({ frames := 9, cells := 0, slots := 0, locals := 204 }) s m args below meth c H locs 0 0 Q (F0 m 66 ls []) := by
    intro x2 k50 hk50 x3 x4 n
    induction n with
    | zero => intro x5 x6 x7 τ H locs ls hT; exact hT.elim
    | succ n ih =>
      intro x5 x6 x7 τ H locs ls hT hI hl
      unfold T_see_66 at hT
      refine lv_iload hx hb dX6_see_66 (lv_at hl 6 rfl) ?_
      refine lv_aload_n hx hb dX6_see_68 rfl (lv_at hl 0 rfl) ?_
      refine tg_0 hC hI dX6_see_69 ?_
      refine lv_iload_n hx hb dX6_see_72 rfl (lv_at hl 1 rfl) ?_
      refine lv_iconst (v := 1) hx hb dX6_see_73 (by decide) ?_
      refine lv_isub hx hb dX6_see_74 ?_
      refine tw_iald hC hI tl_1 hT dX6_see_75 (fun hT => ?_)
      refine lv_icmp_gt (tgt := 142) hx hb dX6_see_76 (by decide) (fun hc => ?_) (fun hc => ?_)
      · have hT := hT.1 hc
        refine lv_iload hx hb dX6_see_142 (lv_at hl 4 rfl) ?_
        refine lv_if_eq (tgt := 154) hx hb dX6_see_144 (by decide) (fun hc => ?_) (fun hc => ?_)
        · have hT := hT.1 hc
          refine lv_iinc (v := x4 + 1) (lv' := [(4, .int (x4 + 1)), (0, .ref (ad 0)), (2, .int x2), (3, .int x3), (5, .int x5), (6, .int x6), (7, .int x7)]) hx hb dX6_see_154 hl (k := 3) rfl rfl (Nat.le_of_ble_eq_true rfl) rfl (fun ls hl => ?_)
          refine lv_goto (tgt := 50) hx hb dX6_see_157 (by decide) ?_
          exact hk50 x3 (x4 + 1) τ _ _ _ hT hI (lv_sub hl [1, 2, 3, 0] rfl)
        · have hT := hT.2 hc
          refine lv_iload_n hx hb dX6_see_147 rfl (lv_at hl 2 rfl) ?_
          refine lv_iconst (v := 1) hx hb dX6_see_148 (by decide) ?_
          refine lv_iload hx hb dX6_see_149 (lv_at hl 3 rfl) ?_
          refine lv_ishl hx hb dX6_see_151 ?_
          refine lv_ior hx hb dX6_see_152 ?_
          refine lv_istore_n (lv' := [(3, .int (x3 ||| (1 <<< (x4 &&& 31)))), (0, .ref (ad 0)), (2, .int x2), (4, .int x4), (5, .int x5), (6, .int x6), (7, .int x7)]) hx hb dX6_see_153 rfl hl (Nat.le_of_ble_eq_true rfl) rfl (fun ls hl => ?_)
          refine lv_iinc (v := x4 + 1) (lv' := [(4, .int (x4 + 1)), (3, .int (x3 ||| (1 <<< (x4 &&& 31)))), (0, .ref (ad 0)), (2, .int x2), (5, .int x5), (6, .int x6), (7, .int x7)]) hx hb dX6_see_154 hl (k := 3) rfl rfl (Nat.le_of_ble_eq_true rfl) rfl (fun ls hl => ?_)
          refine lv_goto (tgt := 50) hx hb dX6_see_157 (by decide) ?_
          exact hk50 (x3 ||| (1 <<< (x4 &&& 31))) (x4 + 1) τ _ _ _ hT hI (lv_sub hl [2, 3, 1, 0] rfl)
      · have hT := hT.2 hc
        refine lv_aload_n hx hb dX6_see_79 rfl (lv_at hl 0 rfl) ?_
        refine tg_0 hC hI dX6_see_80 ?_
        refine lv_iload hx hb dX6_see_83 (lv_at hl 5 rfl) ?_
        refine tw_iald hC hI tl_1 hT dX6_see_85 (fun hT => ?_)
        refine lv_iload hx hb dX6_see_86 (lv_at hl 6 rfl) ?_
        refine lv_icmp_ne (tgt := 95) hx hb dX6_see_88 (by decide) (fun hc => ?_) (fun hc => ?_)
        · have hT := hT.1 hc
          refine lv_iconst (v := 0) hx hb dX6_see_95 (by decide) ?_
          refine lv_istore (lv' := [(8, .int 0), (0, .ref (ad 0)), (2, .int x2), (3, .int x3), (4, .int x4), (5, .int x5), (6, .int x6), (7, .int x7)]) hx hb dX6_see_96 hl (Nat.le_of_ble_eq_true rfl) rfl (fun ls hl => ?_)
          refine lv_iload hx hb dX6_see_98 (lv_at hl 0 rfl) ?_
          refine lv_if_eq (tgt := 106) hx hb dX6_see_100 (by decide) (fun hc => ?_) (fun hc => ?_)
          · exact w_106 x2 x3 x4 (k50) (T_see_66 K k50 x2 x3 x4 n) (hk50) (ih) x5 x6 x7 0 τ _ _ _ hT hI (lv_sub hl [1, 2, 3, 4, 5, 6, 7, 0] rfl)
          · exact absurd hc (by decide)
        · have hT := hT.2 hc
          refine lv_iconst (v := 1) hx hb dX6_see_91 (by decide) ?_
          refine lv_goto (tgt := 96) hx hb dX6_see_92 (by decide) ?_
          refine lv_istore (lv' := [(8, .int 1), (0, .ref (ad 0)), (2, .int x2), (3, .int x3), (4, .int x4), (5, .int x5), (6, .int x6), (7, .int x7)]) hx hb dX6_see_96 hl (Nat.le_of_ble_eq_true rfl) rfl (fun ls hl => ?_)
          refine lv_iload hx hb dX6_see_98 (lv_at hl 0 rfl) ?_
          refine lv_if_eq (tgt := 106) hx hb dX6_see_100 (by decide) (fun hc => ?_) (fun hc => ?_)
          · exact absurd hc (by decide)
          · refine lv_iinc (v := x6 + 1) (lv' := [(6, .int (x6 + 1)), (8, .int 1), (0, .ref (ad 0)), (2, .int x2), (3, .int x3), (4, .int x4), (5, .int x5), (7, .int x7)]) hx hb dX6_see_103 hl (k := 6) rfl rfl (Nat.le_of_ble_eq_true rfl) rfl (fun ls hl => ?_)
            exact w_106 x2 x3 x4 (k50) (T_see_66 K k50 x2 x3 x4 n) (hk50) (ih) x5 (x6 + 1) x7 1 τ _ _ _ hT hI (lv_sub hl [2, 3, 4, 5, 6, 0, 7, 1] rfl)
  have w_50 : ∀ (x2 : Int32) (n : Nat) (x3 : Int32) (x4 : Int32) (τ : Sto) (H : Heap) (locs : List Loc) (ls : Array Slot), T_see_50 K x2 n x3 x4 τ → tI D dA ad sz s.heap τ H locs → lv_has ls 9 [(0, .ref (ad 0)), (2, .int x2), (3, .int x3), (4, .int x4)] → W p l e ({ frames := 9, cells := 0, slots := 0, locals := 204 }) s m args below meth c H locs 0 0 Q (F0 m 50 ls []) := by
    intro x2 n
    induction n with
    | zero => intro x3 x4 τ H locs ls hT; exact hT.elim
    | succ n ih =>
      intro x3 x4 τ H locs ls hT hI hl
      unfold T_see_50 at hT
      refine lv_iload hx hb dX6_see_50 (lv_at hl 3 rfl) ?_
      refine lv_bipush (v := 10) hx hb dX6_see_52 (by decide) ?_
      refine lv_icmp_ge (tgt := 160) hx hb dX6_see_54 (by decide) (fun hc => ?_) (fun hc => ?_)
      · have hT := hT.1 hc
        refine lv_iload_n hx hb dX6_see_160 rfl (lv_at hl 2 rfl) ?_
        exact hret _ _ _ _ _ _ hT hI dX6_see_161
      · have hT := hT.2 hc
        refine lv_iconst (v := 1) hx hb dX6_see_57 (by decide) ?_
        refine lv_istore (lv' := [(5, .int 1), (0, .ref (ad 0)), (2, .int x2), (3, .int x3), (4, .int x4)]) hx hb dX6_see_58 hl (Nat.le_of_ble_eq_true rfl) rfl (fun ls hl => ?_)
        refine lv_iconst (v := 0) hx hb dX6_see_60 (by decide) ?_
        refine lv_istore (lv' := [(6, .int 0), (5, .int 1), (0, .ref (ad 0)), (2, .int x2), (3, .int x3), (4, .int x4)]) hx hb dX6_see_61 hl (Nat.le_of_ble_eq_true rfl) rfl (fun ls hl => ?_)
        refine lv_iconst (v := 1) hx hb dX6_see_63 (by decide) ?_
        refine lv_istore (lv' := [(7, .int 1), (6, .int 0), (5, .int 1), (0, .ref (ad 0)), (2, .int x2), (3, .int x3), (4, .int x4)]) hx hb dX6_see_64 hl (Nat.le_of_ble_eq_true rfl) rfl (fun ls hl => ?_)
        obtain ⟨n66, hT⟩ := hT
        exact w_66 x2 (T_see_50 K x2 n) (ih) x3 x4 n66 1 0 1 τ _ _ _ hT hI (lv_sub hl [3, 4, 5, 6, 2, 1, 0] rfl)
  unfold T_see at hT
  refine lv_aload_n hx hb dX6_see_0 rfl (lv_at hl 0 rfl) ?_
  refine tg_1 hC hI dX6_see_1 ?_
  refine lv_istore_n (lv' := [(2, .int (τ.1 0 1)), (0, .ref (ad 0)), (1, .int x1)]) hx hb dX6_see_4 rfl hl (Nat.le_of_ble_eq_true rfl) rfl (fun ls hl => ?_)
  refine lv_aload_n hx hb dX6_see_5 rfl (lv_at hl 1 rfl) ?_
  refine lv_iconst (v := 0) hx hb dX6_see_6 (by decide) ?_
  refine tp_1 hC hI hT dX6_see_7 (fun τ1 H locs hT hI => ?_)
  refine lv_aload_n hx hb dX6_see_10 rfl (lv_at hl 1 rfl) ?_
  refine lv_iload_n hx hb dX6_see_11 rfl (lv_at hl 2 rfl) ?_
  refine tc_isThing hC hI hT ⟨Nat.le_of_ble_eq_true rfl, Nat.le_of_ble_eq_true rfl⟩ ⟨Nat.zero_le _, Nat.zero_le _⟩ hl.1 (Nat.le_of_ble_eq_true rfl) dX6_see_12 (fun r3 τ2 H locs hT hI => ?_)
  refine lv_if_eq (tgt := 26) hx hb dX6_see_15 (by decide) (fun hc => ?_) (fun hc => ?_)
  · have hT := hT.1 hc
    refine lv_aload_n hx hb dX6_see_26 rfl (lv_at hl 1 rfl) ?_
    refine lv_iconst (v := 1) hx hb dX6_see_27 (by decide) ?_
    refine tc_refuses hC hI hT ⟨Nat.le_of_ble_eq_true rfl, Nat.le_of_ble_eq_true rfl⟩ ⟨Nat.zero_le _, Nat.zero_le _⟩ hl.1 (Nat.le_of_ble_eq_true rfl) dX6_see_28 (fun r5 τ4 H locs hT hI => ?_)
    exact hret _ _ _ _ _ _ hT hI dX6_see_31
  · have hT := hT.2 hc
    refine lv_aload_n hx hb dX6_see_18 rfl (lv_at hl 1 rfl) ?_
    refine lv_iload_n hx hb dX6_see_19 rfl (lv_at hl 0 rfl) ?_
    refine tc_areDays hC hI hT ⟨Nat.le_of_ble_eq_true rfl, Nat.le_of_ble_eq_true rfl⟩ ⟨Nat.zero_le _, Nat.zero_le _⟩ hl.1 (Nat.le_of_ble_eq_true rfl) dX6_see_20 (fun r7 τ6 H locs hT hI => ?_)
    refine lv_if_ne (tgt := 32) hx hb dX6_see_23 (by decide) (fun hc => ?_) (fun hc => ?_)
    · have hT := hT.1 hc
      refine lv_iconst (v := 0) hx hb dX6_see_32 (by decide) ?_
      refine lv_istore_n (lv' := [(3, .int 0), (2, .int (τ.1 0 1)), (0, .ref (ad 0)), (1, .int x1)]) hx hb dX6_see_33 rfl hl (Nat.le_of_ble_eq_true rfl) rfl (fun ls hl => ?_)
      refine lv_aload_n hx hb dX6_see_34 rfl (lv_at hl 2 rfl) ?_
      refine lv_iload_n hx hb dX6_see_35 rfl (lv_at hl 3 rfl) ?_
      refine lv_aload_n hx hb dX6_see_36 rfl (lv_at hl 2 rfl) ?_
      refine tg_0 hC hI dX6_see_37 ?_
      refine lv_iload_n hx hb dX6_see_40 rfl (lv_at hl 1 rfl) ?_
      refine lv_iconst (v := 1) hx hb dX6_see_41 (by decide) ?_
      refine lv_isub hx hb dX6_see_42 ?_
      refine tw_iald hC hI tl_1 hT dX6_see_43 (fun hT => ?_)
      refine tc_laysBreaks hC hI hT ⟨Nat.le_of_ble_eq_true rfl, Nat.le_of_ble_eq_true rfl⟩ ⟨Nat.zero_le _, Nat.zero_le _⟩ hl.1 (Nat.le_of_ble_eq_true rfl) dX6_see_44 (fun τ8 H locs hT hI => ?_)
      refine lv_iconst (v := 0) hx hb dX6_see_47 (by decide) ?_
      refine lv_istore (lv' := [(4, .int 0), (3, .int 0), (2, .int (τ.1 0 1)), (0, .ref (ad 0)), (1, .int x1)]) hx hb dX6_see_48 hl (Nat.le_of_ble_eq_true rfl) rfl (fun ls hl => ?_)
      obtain ⟨n50, hT⟩ := hT
      exact w_50 (τ.1 0 1) n50 0 0 τ8 _ _ _ hT hI (lv_sub hl [3, 2, 1, 0] rfl)
    · have hT := hT.2 hc
      refine lv_aload_n hx hb dX6_see_26 rfl (lv_at hl 1 rfl) ?_
      refine lv_iconst (v := 1) hx hb dX6_see_27 (by decide) ?_
      refine tc_refuses hC hI hT ⟨Nat.le_of_ble_eq_true rfl, Nat.le_of_ble_eq_true rfl⟩ ⟨Nat.zero_le _, Nat.zero_le _⟩ hl.1 (Nat.le_of_ble_eq_true rfl) dX6_see_28 (fun r10 τ9 H locs hT hI => ?_)
      exact hret _ _ _ _ _ _ hT hI dX6_see_31
set_option maxHeartbeats 4000000 in
set_option maxRecDepth 100000 in
theorem met_tells (l : Launch) (D : va_G) (dA : Nat → ClassId) (ad : Nat → Nat) (hJ : rgJ twL ad) (sz : Nat) (τ : Sto) (x1 : Int32) (x2 : Int32) (K : Int32 → Sto → Prop) (hT : T_tells τ x1 x2 K) : Met l yX6_tells (ws_ yX6_tells cX6_tells 8 (some .int)) ({ frames := 9, cells := 0, slots := 0, locals := 204 }) (va_Pc [.ref (ad 0), .int x1, .int x2] (rgU D vwCl dA twL ad sz τ)) (va_Qi K (rgU D vwCl dA twL ad sz) (rgAd twL ad)) 0 0 (rgAd twL ad) := by
  refine tw_meti hJ (by decide) rfl (Nat.le_of_ble_eq_true rfl) ?_
  intro p e s m args below meth c Q hC hret hI ls hl
  have hx := hC.1.1
  have hb := hC.1.2.1
  have hl : lv_has ls 8 [(0, .ref (ad 0)), (1, .int x1), (2, .int x2)] := hl
  have w_113 : ∀ (x2 : Int32) (k48 : Int32 → Int32 → Int32 → Sto → Prop), (∀ (x3 : Int32) (x4 : Int32) (x5 : Int32) (τ : Sto) (H : Heap) (locs : List Loc) (ls : Array Slot), k48 x3 x4 x5 τ → tI D dA ad sz s.heap τ H locs → lv_has ls 8 [(0, .ref (ad 0)), (2, .int x2), (3, .int x3), (4, .int x4), (5, .int x5)] → W p l e ({ frames := 9, cells := 0, slots := 0, locals := 204 }) s m args below meth c H locs 0 0 Q (F0 m 48 ls [])) → ∀ (x3 : Int32) (x4 : Int32) (x5 : Int32) (s0 : Int32) (τ : Sto) (H : Heap) (locs : List Loc) (ls : Array Slot), T_tells_113 K k48 x2 x3 x4 x5 s0 τ → tI D dA ad sz s.heap τ H locs → lv_has ls 8 [(0, .ref (ad 0)), (2, .int x2), (3, .int x3), (4, .int x4), (5, .int x5)] → W p l e ({ frames := 9, cells := 0, slots := 0, locals := 204 }) s m args below meth c H locs 0 0 Q (F0 m 113 ls [.int s0]) := by
    intro x2 k48 hk48 x3 x4 x5 s0 τ H locs ls hT hI hl
    unfold T_tells_113 at hT
    refine lv_istore (lv' := [(7, .int s0), (0, .ref (ad 0)), (2, .int x2), (3, .int x3), (4, .int x4), (5, .int x5)]) hx hb dX6_tells_113 hl (Nat.le_of_ble_eq_true rfl) rfl (fun ls hl => ?_)
    refine lv_iload_n hx hb dX6_tells_115 rfl (lv_at hl 3 rfl) ?_
    refine lv_iconst (v := -1) hx hb dX6_tells_116 (by decide) ?_
    refine lv_icmp_eq (tgt := 130) hx hb dX6_tells_117 (by decide) (fun hc => ?_) (fun hc => ?_)
    · have hT := hT.1 hc
      refine lv_iload hx hb dX6_tells_130 (lv_at hl 5 rfl) ?_
      refine lv_istore_n (lv' := [(3, .int x5), (7, .int s0), (0, .ref (ad 0)), (2, .int x2), (4, .int x4), (5, .int x5)]) hx hb dX6_tells_132 rfl hl (Nat.le_of_ble_eq_true rfl) rfl (fun ls hl => ?_)
      refine lv_iload hx hb dX6_tells_133 (lv_at hl 1 rfl) ?_
      refine lv_istore (lv' := [(4, .int s0), (3, .int x5), (7, .int s0), (0, .ref (ad 0)), (2, .int x2), (5, .int x5)]) hx hb dX6_tells_135 hl (Nat.le_of_ble_eq_true rfl) rfl (fun ls hl => ?_)
      refine lv_iinc (v := x5 + 1) (lv' := [(5, .int (x5 + 1)), (4, .int s0), (3, .int x5), (7, .int s0), (0, .ref (ad 0)), (2, .int x2)]) hx hb dX6_tells_137 hl (k := 5) rfl rfl (Nat.le_of_ble_eq_true rfl) rfl (fun ls hl => ?_)
      refine lv_goto (tgt := 48) hx hb dX6_tells_140 (by decide) ?_
      exact hk48 x5 s0 (x5 + 1) τ _ _ _ hT hI (lv_sub hl [4, 5, 2, 1, 0] rfl)
    · have hT := hT.2 hc
      refine lv_iload hx hb dX6_tells_120 (lv_at hl 0 rfl) ?_
      refine lv_iload hx hb dX6_tells_122 (lv_at hl 4 rfl) ?_
      refine lv_icmp_lt (tgt := 130) hx hb dX6_tells_124 (by decide) (fun hc => ?_) (fun hc => ?_)
      · have hT := hT.1 hc
        refine lv_iload hx hb dX6_tells_130 (lv_at hl 5 rfl) ?_
        refine lv_istore_n (lv' := [(3, .int x5), (7, .int s0), (0, .ref (ad 0)), (2, .int x2), (4, .int x4), (5, .int x5)]) hx hb dX6_tells_132 rfl hl (Nat.le_of_ble_eq_true rfl) rfl (fun ls hl => ?_)
        refine lv_iload hx hb dX6_tells_133 (lv_at hl 1 rfl) ?_
        refine lv_istore (lv' := [(4, .int s0), (3, .int x5), (7, .int s0), (0, .ref (ad 0)), (2, .int x2), (5, .int x5)]) hx hb dX6_tells_135 hl (Nat.le_of_ble_eq_true rfl) rfl (fun ls hl => ?_)
        refine lv_iinc (v := x5 + 1) (lv' := [(5, .int (x5 + 1)), (4, .int s0), (3, .int x5), (7, .int s0), (0, .ref (ad 0)), (2, .int x2)]) hx hb dX6_tells_137 hl (k := 5) rfl rfl (Nat.le_of_ble_eq_true rfl) rfl (fun ls hl => ?_)
        refine lv_goto (tgt := 48) hx hb dX6_tells_140 (by decide) ?_
        exact hk48 x5 s0 (x5 + 1) τ _ _ _ hT hI (lv_sub hl [4, 5, 2, 1, 0] rfl)
      · have hT := hT.2 hc
        refine lv_goto (tgt := 137) hx hb dX6_tells_127 (by decide) ?_
        refine lv_iinc (v := x5 + 1) (lv' := [(5, .int (x5 + 1)), (7, .int s0), (0, .ref (ad 0)), (2, .int x2), (3, .int x3), (4, .int x4)]) hx hb dX6_tells_137 hl (k := 5) rfl rfl (Nat.le_of_ble_eq_true rfl) rfl (fun ls hl => ?_)
        refine lv_goto (tgt := 48) hx hb dX6_tells_140 (by decide) ?_
        exact hk48 x3 x4 (x5 + 1) τ _ _ _ hT hI (lv_sub hl [2, 3, 4, 5, 0] rfl)
  have w_61 : ∀ (x2 : Int32) (k48 : Int32 → Int32 → Int32 → Sto → Prop), (∀ (x3 : Int32) (x4 : Int32) (x5 : Int32) (τ : Sto) (H : Heap) (locs : List Loc) (ls : Array Slot), k48 x3 x4 x5 τ → tI D dA ad sz s.heap τ H locs → lv_has ls 8 [(0, .ref (ad 0)), (2, .int x2), (3, .int x3), (4, .int x4), (5, .int x5)] → W p l e ({ frames := 9, cells := 0, slots := 0, locals := 204 }) s m args below meth c H locs 0 0 Q (F0 m 48 ls [])) → ∀ (x3 : Int32) (x4 : Int32) (x5 : Int32) (n : Nat) (x6 : Int32) (x7 : Int32) (τ : Sto) (H : Heap) (locs : List Loc) (ls : Array Slot), T_tells_61 K k48 x2 x3 x4 x5 n x6 x7 τ → tI D dA ad sz s.heap τ H locs → lv_has ls 8 [(0, .ref (ad 0)), (2, .int x2), (3, .int x3), (4, .int x4), (5, .int x5), (6, .int x6), (7, .int x7)] → W p l e ({ frames := 9, cells := 0, slots := 0, locals := 204 }) s m args below meth c H locs 0 0 Q (F0 m 61 ls []) := by
    intro x2 k48 hk48 x3 x4 x5 n
    induction n with
    | zero => intro x6 x7 τ H locs ls hT; exact hT.elim
    | succ n ih =>
      intro x6 x7 τ H locs ls hT hI hl
      unfold T_tells_61 at hT
      refine lv_iload hx hb dX6_tells_61 (lv_at hl 6 rfl) ?_
      refine lv_bipush (v := 10) hx hb dX6_tells_63 (by decide) ?_
      refine lv_icmp_ge (tgt := 93) hx hb dX6_tells_65 (by decide) (fun hc => ?_) (fun hc => ?_)
      · have hT := hT.1 hc
        refine lv_iload hx hb dX6_tells_93 (lv_at hl 5 rfl) ?_
        refine lv_bipush (v := 10) hx hb dX6_tells_95 (by decide) ?_
        refine lv_iload hx hb dX6_tells_97 (lv_at hl 5 rfl) ?_
        refine lv_isub hx hb dX6_tells_99 ?_
        refine lv_icmp_le (tgt := 108) hx hb dX6_tells_100 (by decide) (fun hc => ?_) (fun hc => ?_)
        · have hT := hT.1 hc
          refine lv_bipush (v := 10) hx hb dX6_tells_108 (by decide) ?_
          refine lv_iload hx hb dX6_tells_110 (lv_at hl 5 rfl) ?_
          refine lv_isub hx hb dX6_tells_112 ?_
          exact w_113 x2 (k48) (hk48) x3 x4 x5 (10 - x6) τ _ _ _ hT hI (lv_sub hl [0, 1, 2, 3, 4] rfl)
        · have hT := hT.2 hc
          refine lv_iload hx hb dX6_tells_103 (lv_at hl 5 rfl) ?_
          refine lv_goto (tgt := 113) hx hb dX6_tells_105 (by decide) ?_
          exact w_113 x2 (k48) (hk48) x3 x4 x5 x6 τ _ _ _ hT hI (lv_sub hl [0, 1, 2, 3, 4] rfl)
      · have hT := hT.2 hc
        refine lv_aload_n hx hb dX6_tells_68 rfl (lv_at hl 0 rfl) ?_
        refine tg_63 hC hI dX6_tells_69 ?_
        refine lv_bipush (v := 31) hx hb dX6_tells_72 (by decide) ?_
        refine lv_iload hx hb dX6_tells_74 (lv_at hl 6 rfl) ?_
        refine lv_imul hx hb dX6_tells_76 ?_
        refine lv_iload hx hb dX6_tells_77 (lv_at hl 4 rfl) ?_
        refine lv_iadd hx hb dX6_tells_79 ?_
        refine tw_zald hC hI tl_64 hT dX6_tells_80 (fun hT => ?_)
        refine lv_if_eq (tgt := 87) hx hb dX6_tells_81 (by decide) (fun hc => ?_) (fun hc => ?_)
        · have hT := hT.1 hc
          refine lv_iinc (v := x7 + 1) (lv' := [(7, .int (x7 + 1)), (0, .ref (ad 0)), (2, .int x2), (3, .int x3), (4, .int x4), (5, .int x5), (6, .int x6)]) hx hb dX6_tells_87 hl (k := 6) rfl rfl (Nat.le_of_ble_eq_true rfl) rfl (fun ls hl => ?_)
          refine lv_goto (tgt := 61) hx hb dX6_tells_90 (by decide) ?_
          exact ih x6 (x7 + 1) τ _ _ _ hT hI (lv_sub hl [1, 2, 3, 4, 5, 6, 0] rfl)
        · have hT := hT.2 hc
          refine lv_iinc (v := x6 + 1) (lv' := [(6, .int (x6 + 1)), (0, .ref (ad 0)), (2, .int x2), (3, .int x3), (4, .int x4), (5, .int x5), (7, .int x7)]) hx hb dX6_tells_84 hl (k := 5) rfl rfl (Nat.le_of_ble_eq_true rfl) rfl (fun ls hl => ?_)
          refine lv_iinc (v := x7 + 1) (lv' := [(7, .int (x7 + 1)), (6, .int (x6 + 1)), (0, .ref (ad 0)), (2, .int x2), (3, .int x3), (4, .int x4), (5, .int x5)]) hx hb dX6_tells_87 hl (k := 6) rfl rfl (Nat.le_of_ble_eq_true rfl) rfl (fun ls hl => ?_)
          refine lv_goto (tgt := 61) hx hb dX6_tells_90 (by decide) ?_
          exact ih (x6 + 1) (x7 + 1) τ _ _ _ hT hI (lv_sub hl [2, 3, 4, 5, 6, 1, 0] rfl)
  have w_48 : ∀ (x2 : Int32) (n : Nat) (x3 : Int32) (x4 : Int32) (x5 : Int32) (τ : Sto) (H : Heap) (locs : List Loc) (ls : Array Slot), T_tells_48 K x2 n x3 x4 x5 τ → tI D dA ad sz s.heap τ H locs → lv_has ls 8 [(0, .ref (ad 0)), (2, .int x2), (3, .int x3), (4, .int x4), (5, .int x5)] → W p l e ({ frames := 9, cells := 0, slots := 0, locals := 204 }) s m args below meth c H locs 0 0 Q (F0 m 48 ls []) := by
    intro x2 n
    induction n with
    | zero => intro x3 x4 x5 τ H locs ls hT; exact hT.elim
    | succ n ih =>
      intro x3 x4 x5 τ H locs ls hT hI hl
      unfold T_tells_48 at hT
      refine lv_iload hx hb dX6_tells_48 (lv_at hl 4 rfl) ?_
      refine lv_bipush (v := 30) hx hb dX6_tells_50 (by decide) ?_
      refine lv_icmp_gt (tgt := 143) hx hb dX6_tells_52 (by decide) (fun hc => ?_) (fun hc => ?_)
      · have hT := hT.1 hc
        refine lv_iload_n hx hb dX6_tells_143 rfl (lv_at hl 1 rfl) ?_
        refine lv_if_ne (tgt := 151) hx hb dX6_tells_144 (by decide) (fun hc => ?_) (fun hc => ?_)
        · have hT := hT.1 hc
          refine lv_iload hx hb dX6_tells_151 (lv_at hl 3 rfl) ?_
          exact hret _ _ _ _ _ _ hT hI dX6_tells_153
        · have hT := hT.2 hc
          refine lv_iload_n hx hb dX6_tells_147 rfl (lv_at hl 2 rfl) ?_
          refine lv_goto (tgt := 153) hx hb dX6_tells_148 (by decide) ?_
          exact hret _ _ _ _ _ _ hT hI dX6_tells_153
      · have hT := hT.2 hc
        refine lv_iconst (v := 0) hx hb dX6_tells_55 (by decide) ?_
        refine lv_istore (lv' := [(6, .int 0), (0, .ref (ad 0)), (2, .int x2), (3, .int x3), (4, .int x4), (5, .int x5)]) hx hb dX6_tells_56 hl (Nat.le_of_ble_eq_true rfl) rfl (fun ls hl => ?_)
        refine lv_iconst (v := 0) hx hb dX6_tells_58 (by decide) ?_
        refine lv_istore (lv' := [(7, .int 0), (6, .int 0), (0, .ref (ad 0)), (2, .int x2), (3, .int x3), (4, .int x4), (5, .int x5)]) hx hb dX6_tells_59 hl (Nat.le_of_ble_eq_true rfl) rfl (fun ls hl => ?_)
        obtain ⟨n61, hT⟩ := hT
        exact w_61 x2 (T_tells_48 K x2 n) (ih) x3 x4 x5 n61 0 0 τ _ _ _ hT hI (lv_sub hl [2, 3, 4, 5, 6, 1, 0] rfl)
  unfold T_tells at hT
  refine lv_aload_n hx hb dX6_tells_0 rfl (lv_at hl 0 rfl) ?_
  refine lv_iload_n hx hb dX6_tells_1 rfl (lv_at hl 1 rfl) ?_
  refine tc_isThing hC hI hT ⟨Nat.le_of_ble_eq_true rfl, Nat.le_of_ble_eq_true rfl⟩ ⟨Nat.zero_le _, Nat.zero_le _⟩ hl.1 (Nat.le_of_ble_eq_true rfl) dX6_tells_2 (fun r2 τ1 H locs hT hI => ?_)
  refine lv_if_eq (tgt := 31) hx hb dX6_tells_5 (by decide) (fun hc => ?_) (fun hc => ?_)
  · have hT := hT.1 hc
    refine lv_iconst (v := -1) hx hb dX6_tells_31 (by decide) ?_
    exact hret _ _ _ _ _ _ hT hI dX6_tells_32
  · have hT := hT.2 hc
    refine lv_iload_n hx hb dX6_tells_8 rfl (lv_at hl 2 rfl) ?_
    refine lv_i2l hx hb dX6_tells_9 rfl ?_
    refine lv_lconst (v := 0) hx hb dX6_tells_10 (by decide) ?_
    refine lv_lconst (v := 1) hx hb dX6_tells_11 (by decide) ?_
    refine tc_isIn hC hI hT ⟨Nat.le_of_ble_eq_true rfl, Nat.le_of_ble_eq_true rfl⟩ ⟨Nat.zero_le _, Nat.zero_le _⟩ hl.1 (Nat.le_of_ble_eq_true rfl) dX6_tells_12 (fun r4 τ3 H locs hT hI => ?_)
    refine lv_if_eq (tgt := 31) hx hb dX6_tells_15 (by decide) (fun hc => ?_) (fun hc => ?_)
    · have hT := hT.1 hc
      refine lv_iconst (v := -1) hx hb dX6_tells_31 (by decide) ?_
      exact hret _ _ _ _ _ _ hT hI dX6_tells_32
    · have hT := hT.2 hc
      refine lv_aload_n hx hb dX6_tells_18 rfl (lv_at hl 0 rfl) ?_
      refine lv_bipush (v := 30) hx hb dX6_tells_19 (by decide) ?_
      refine lv_bipush (v := 30) hx hb dX6_tells_21 (by decide) ?_
      refine lv_bipush (v := 30) hx hb dX6_tells_23 (by decide) ?_
      refine tc_isAhead hC hI hT ⟨Nat.le_of_ble_eq_true rfl, Nat.le_of_ble_eq_true rfl⟩ ⟨Nat.zero_le _, Nat.zero_le _⟩ hl.1 (Nat.le_of_ble_eq_true rfl) dX6_tells_25 (fun r6 τ5 H locs hT hI => ?_)
      refine lv_if_ne (tgt := 33) hx hb dX6_tells_28 (by decide) (fun hc => ?_) (fun hc => ?_)
      · have hT := hT.1 hc
        refine lv_aload_n hx hb dX6_tells_33 rfl (lv_at hl 0 rfl) ?_
        refine lv_iload_n hx hb dX6_tells_34 rfl (lv_at hl 1 rfl) ?_
        refine lv_bipush (v := 30) hx hb dX6_tells_35 (by decide) ?_
        refine tc_laysBreaks hC hI hT ⟨Nat.le_of_ble_eq_true rfl, Nat.le_of_ble_eq_true rfl⟩ ⟨Nat.zero_le _, Nat.zero_le _⟩ hl.1 (Nat.le_of_ble_eq_true rfl) dX6_tells_37 (fun τ7 H locs hT hI => ?_)
        refine lv_iconst (v := -1) hx hb dX6_tells_40 (by decide) ?_
        refine lv_istore_n (lv' := [(3, .int (-1)), (0, .ref (ad 0)), (1, .int x1), (2, .int x2)]) hx hb dX6_tells_41 rfl hl (Nat.le_of_ble_eq_true rfl) rfl (fun ls hl => ?_)
        refine lv_iconst (v := 0) hx hb dX6_tells_42 (by decide) ?_
        refine lv_istore (lv' := [(4, .int 0), (3, .int (-1)), (0, .ref (ad 0)), (1, .int x1), (2, .int x2)]) hx hb dX6_tells_43 hl (Nat.le_of_ble_eq_true rfl) rfl (fun ls hl => ?_)
        refine lv_iconst (v := 1) hx hb dX6_tells_45 (by decide) ?_
        refine lv_istore (lv' := [(5, .int 1), (4, .int 0), (3, .int (-1)), (0, .ref (ad 0)), (1, .int x1), (2, .int x2)]) hx hb dX6_tells_46 hl (Nat.le_of_ble_eq_true rfl) rfl (fun ls hl => ?_)
        obtain ⟨n48, hT⟩ := hT
        exact w_48 x2 n48 (-1) 0 1 τ7 _ _ _ hT hI (lv_sub hl [3, 5, 2, 1, 0] rfl)
      · have hT := hT.2 hc
        refine lv_iconst (v := -1) hx hb dX6_tells_31 (by decide) ?_
        exact hret _ _ _ _ _ _ hT hI dX6_tells_32
