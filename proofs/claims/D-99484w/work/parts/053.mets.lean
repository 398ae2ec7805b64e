set_option maxHeartbeats 4000000 in
set_option maxRecDepth 100000 in
theorem met_isAllowed (l : Launch) (D : va_G) (dA : Nat → ClassId) (ad : Nat → Nat) (hJ : rgJ twL ad) (sz : Nat) (τ : Sto) (x1 : Int32) (K : Int32 → Sto → Prop) (hT : T_isAllowed τ x1 K) : Met l yX6_isAllowed (ws_ yX6_isAllowed cX6_isAllowed 2 (some .boolean)) ({ frames := 1, cells := 0, slots := 0, locals := 12 }) (va_Pc [.ref (ad 0), .int x1] (rgU D vwCl dA twL ad sz τ)) (va_Qi K (rgU D vwCl dA twL ad sz) (rgAd twL ad)) 0 0 (rgAd twL ad) := by
  refine tw_metz hJ (by decide) rfl (Nat.le_of_ble_eq_true rfl) ?_
  intro p e s m args below meth c Q hC hret hI ls hl
  have hx := hC.1.1
  have hb := hC.1.2.1
  have hl : lv_has ls 2 [(0, .ref (ad 0)), (1, .int x1)] := hl
  unfold T_isAllowed at hT
  refine lv_iload_n hx hb dX6_isAllowed_0 rfl (lv_at hl 1 rfl) ?_
  refine lv_bipush (v := 6) hx hb dX6_isAllowed_1 (by decide) ?_
  refine lv_icmp_lt (tgt := 54) hx hb dX6_isAllowed_3 (by decide) (fun hc => ?_) (fun hc => ?_)
  · have hT := hT.1 hc
    refine lv_iconst (v := 1) hx hb dX6_isAllowed_54 (by decide) ?_
    refine lv_goto (tgt := 59) hx hb dX6_isAllowed_55 (by decide) ?_
    exact hret _ _ _ _ _ _ (by decide) hT hI dX6_isAllowed_59
  · have hT := hT.2 hc
    refine lv_aload_n hx hb dX6_isAllowed_6 rfl (lv_at hl 0 rfl) ?_
    refine tg_50 hC hI dX6_isAllowed_7 ?_
    refine lv_iconst (v := 1) hx hb dX6_isAllowed_10 (by decide) ?_
    refine lv_icmp_ne (tgt := 23) hx hb dX6_isAllowed_11 (by decide) (fun hc => ?_) (fun hc => ?_)
    · have hT := hT.1 hc
      refine lv_aload_n hx hb dX6_isAllowed_23 rfl (lv_at hl 0 rfl) ?_
      refine tg_50 hC hI dX6_isAllowed_24 ?_
      refine lv_iconst (v := 2) hx hb dX6_isAllowed_27 (by decide) ?_
      refine lv_icmp_ne (tgt := 40) hx hb dX6_isAllowed_28 (by decide) (fun hc => ?_) (fun hc => ?_)
      · have hT := hT.1 hc
        refine lv_aload_n hx hb dX6_isAllowed_40 rfl (lv_at hl 0 rfl) ?_
        refine tg_50 hC hI dX6_isAllowed_41 ?_
        refine lv_iconst (v := 3) hx hb dX6_isAllowed_44 (by decide) ?_
        refine lv_icmp_ne (tgt := 58) hx hb dX6_isAllowed_45 (by decide) (fun hc => ?_) (fun hc => ?_)
        · have hT := hT.1 hc
          refine lv_iconst (v := 0) hx hb dX6_isAllowed_58 (by decide) ?_
          exact hret _ _ _ _ _ _ (by decide) hT hI dX6_isAllowed_59
        · have hT := hT.2 hc
          refine lv_iload_n hx hb dX6_isAllowed_48 rfl (lv_at hl 1 rfl) ?_
          refine lv_bipush (v := 7) hx hb dX6_isAllowed_49 (by decide) ?_
          refine lv_icmp_eq (tgt := 58) hx hb dX6_isAllowed_51 (by decide) (fun hc => ?_) (fun hc => ?_)
          · have hT := hT.1 hc
            refine lv_iconst (v := 0) hx hb dX6_isAllowed_58 (by decide) ?_
            exact hret _ _ _ _ _ _ (by decide) hT hI dX6_isAllowed_59
          · have hT := hT.2 hc
            refine lv_iconst (v := 1) hx hb dX6_isAllowed_54 (by decide) ?_
            refine lv_goto (tgt := 59) hx hb dX6_isAllowed_55 (by decide) ?_
            exact hret _ _ _ _ _ _ (by decide) hT hI dX6_isAllowed_59
      · have hT := hT.2 hc
        refine lv_iload_n hx hb dX6_isAllowed_31 rfl (lv_at hl 1 rfl) ?_
        refine lv_bipush (v := 7) hx hb dX6_isAllowed_32 (by decide) ?_
        refine lv_icmp_ne (tgt := 58) hx hb dX6_isAllowed_34 (by decide) (fun hc => ?_) (fun hc => ?_)
        · have hT := hT.1 hc
          refine lv_iconst (v := 0) hx hb dX6_isAllowed_58 (by decide) ?_
          exact hret _ _ _ _ _ _ (by decide) hT hI dX6_isAllowed_59
        · have hT := hT.2 hc
          refine lv_goto (tgt := 54) hx hb dX6_isAllowed_37 (by decide) ?_
          refine lv_iconst (v := 1) hx hb dX6_isAllowed_54 (by decide) ?_
          refine lv_goto (tgt := 59) hx hb dX6_isAllowed_55 (by decide) ?_
          exact hret _ _ _ _ _ _ (by decide) hT hI dX6_isAllowed_59
    · have hT := hT.2 hc
      refine lv_iload_n hx hb dX6_isAllowed_14 rfl (lv_at hl 1 rfl) ?_
      refine lv_bipush (v := 6) hx hb dX6_isAllowed_15 (by decide) ?_
      refine lv_icmp_ne (tgt := 58) hx hb dX6_isAllowed_17 (by decide) (fun hc => ?_) (fun hc => ?_)
      · have hT := hT.1 hc
        refine lv_iconst (v := 0) hx hb dX6_isAllowed_58 (by decide) ?_
        exact hret _ _ _ _ _ _ (by decide) hT hI dX6_isAllowed_59
      · have hT := hT.2 hc
        refine lv_goto (tgt := 54) hx hb dX6_isAllowed_20 (by decide) ?_
        refine lv_iconst (v := 1) hx hb dX6_isAllowed_54 (by decide) ?_
        refine lv_goto (tgt := 59) hx hb dX6_isAllowed_55 (by decide) ?_
        exact hret _ _ _ _ _ _ (by decide) hT hI dX6_isAllowed_59
theorem tc_isAllowed {p : Program} {l : Launch} {e : Env} {R : Room} {s : State} {m : MethodId} {args : Array Value} {below : List Frame} {meth : Method} {c : Code} {H : Heap} {locs : List Loc} {cells slots : Nat} {Q : State → Prop} {cc : ByteArray} {nL : Nat} {D : va_G} {dA : Nat → ClassId} {ad : Nat → Nat} {τ : Sto} {pc sz : Nat} {ls : Array Slot} {rest : List Value} {H0 : Heap} {x1 : Int32} {K : Int32 → Sto → Prop} (hC : tC p m c cc nL s args D dA ad) (hI : tI D dA ad sz H0 τ H locs) (hT : T_isAllowed τ x1 K) (hR : 1 + 1 ≤ R.frames ∧ 8 + (2 + 11) + 12 ≤ R.locals) (hf : cells ≤ R.cells ∧ slots ≤ R.slots) (hsz : ls.size = nL) (hroom : (rest.map fun v => v.category).sum ≤ 8) (hdg : decode cc pc = .ok (.invokevirtual 602, 3)) (kk : ∀ (r : Int32) (τ1 : Sto) (H1 : Heap) (locs1 : List Loc), K r τ1 → tI D dA ad sz H0 τ1 H1 locs1 → W p l e R s m args below meth c H1 locs1 cells slots Q (F0 m (pc + 3) ls (.int r :: rest))) : W p l e R s m args below meth c H locs cells slots Q (F0 m pc ls (.int x1 :: .ref (ad 0) :: rest)) :=
  rg_calli (rg_runV hC.1 hC.2.1 hI.1 hI.2.1 tl_0 rfl (met_isAllowed l D dA ad hC.2.2 sz τ x1 K hT) (lw_V q2132 q2134 qs86 q170 q2135) 1 (by decide +kernel) ⟨rfl, rfl⟩ hR rfl hsz rfl hroom hf hdg) hI.2.2 (fun r τ1 H1 l1 hk hz hP hS => kk r τ1 H1 l1 hk ⟨hP, hz, hS⟩)
set_option maxHeartbeats 4000000 in
set_option maxRecDepth 100000 in
theorem met_qWordOf (l : Launch) (D : va_G) (dA : Nat → ClassId) (ad : Nat → Nat) (hJ : rgJ twL ad) (sz : Nat) (τ : Sto) (x1 : Int32) (x2 : Int32) (K : Int32 → Sto → Prop) (hT : T_qWordOf τ x1 x2 K) : Met l yX6_qWordOf (ws_ yX6_qWordOf cX6_qWordOf 4 (some .int)) ({ frames := 4, cells := 0, slots := 0, locals := 75 }) (va_Pc [.ref (ad 0), .int x1, .int x2] (rgU D vwCl dA twL ad sz τ)) (va_Qi K (rgU D vwCl dA twL ad sz) (rgAd twL ad)) 0 0 (rgAd twL ad) := by
  refine tw_meti hJ (by decide) rfl (Nat.le_of_ble_eq_true rfl) ?_
  intro p e s m args below meth c Q hC hret hI ls hl
  have hx := hC.1.1
  have hb := hC.1.2.1
  have hl : lv_has ls 4 [(0, .ref (ad 0)), (1, .int x1), (2, .int x2)] := hl
  unfold T_qWordOf at hT
  refine lv_aload_n hx hb dX6_qWordOf_0 rfl (lv_at hl 0 rfl) ?_
  refine tc_qWordHere hC hI hT ⟨Nat.le_of_ble_eq_true rfl, Nat.le_of_ble_eq_true rfl⟩ ⟨Nat.zero_le _, Nat.zero_le _⟩ hl.1 (Nat.le_of_ble_eq_true rfl) dX6_qWordOf_1 (fun r2 τ1 H locs hT hI => ?_)
  refine lv_istore_n (lv' := [(3, .int r2), (0, .ref (ad 0)), (1, .int x1), (2, .int x2)]) hx hb dX6_qWordOf_4 rfl hl (Nat.le_of_ble_eq_true rfl) rfl (fun ls hl => ?_)
  refine lv_iload_n hx hb dX6_qWordOf_5 rfl (lv_at hl 0 rfl) ?_
  refine lv_iload_n hx hb dX6_qWordOf_6 rfl (lv_at hl 2 rfl) ?_
  refine lv_icmp_lt (tgt := 27) hx hb dX6_qWordOf_7 (by decide) (fun hc => ?_) (fun hc => ?_)
  · have hT := hT.1 hc
    refine lv_iconst (v := -1) hx hb dX6_qWordOf_27 (by decide) ?_
    exact hret _ _ _ _ _ _ hT hI dX6_qWordOf_28
  · have hT := hT.2 hc
    refine lv_iload_n hx hb dX6_qWordOf_10 rfl (lv_at hl 0 rfl) ?_
    refine lv_iload_n hx hb dX6_qWordOf_11 rfl (lv_at hl 3 rfl) ?_
    refine lv_icmp_ge (tgt := 27) hx hb dX6_qWordOf_12 (by decide) (fun hc => ?_) (fun hc => ?_)
    · have hT := hT.1 hc
      refine lv_iconst (v := -1) hx hb dX6_qWordOf_27 (by decide) ?_
      exact hret _ _ _ _ _ _ hT hI dX6_qWordOf_28
    · have hT := hT.2 hc
      refine lv_aload_n hx hb dX6_qWordOf_15 rfl (lv_at hl 1 rfl) ?_
      refine lv_iload_n hx hb dX6_qWordOf_16 rfl (lv_at hl 0 rfl) ?_
      refine tc_isAllowed hC hI hT ⟨Nat.le_of_ble_eq_true rfl, Nat.le_of_ble_eq_true rfl⟩ ⟨Nat.zero_le _, Nat.zero_le _⟩ hl.1 (Nat.le_of_ble_eq_true rfl) dX6_qWordOf_17 (fun r4 τ3 H locs hT hI => ?_)
      refine lv_if_eq (tgt := 27) hx hb dX6_qWordOf_20 (by decide) (fun hc => ?_) (fun hc => ?_)
      · have hT := hT.1 hc
        refine lv_iconst (v := -1) hx hb dX6_qWordOf_27 (by decide) ?_
        exact hret _ _ _ _ _ _ hT hI dX6_qWordOf_28
      · have hT := hT.2 hc
        refine lv_iload_n hx hb dX6_qWordOf_23 rfl (lv_at hl 0 rfl) ?_
        refine lv_goto (tgt := 28) hx hb dX6_qWordOf_24 (by decide) ?_
        exact hret _ _ _ _ _ _ hT hI dX6_qWordOf_28
theorem tc_qWordOf {p : Program} {l : Launch} {e : Env} {R : Room} {s : State} {m : MethodId} {args : Array Value} {below : List Frame} {meth : Method} {c : Code} {H : Heap} {locs : List Loc} {cells slots : Nat} {Q : State → Prop} {cc : ByteArray} {nL : Nat} {D : va_G} {dA : Nat → ClassId} {ad : Nat → Nat} {τ : Sto} {pc sz : Nat} {ls : Array Slot} {rest : List Value} {H0 : Heap} {x1 : Int32} {x2 : Int32} {K : Int32 → Sto → Prop} (hC : tC p m c cc nL s args D dA ad) (hI : tI D dA ad sz H0 τ H locs) (hT : T_qWordOf τ x1 x2 K) (hR : 4 + 1 ≤ R.frames ∧ 8 + (4 + 11) + 75 ≤ R.locals) (hf : cells ≤ R.cells ∧ slots ≤ R.slots) (hsz : ls.size = nL) (hroom : (rest.map fun v => v.category).sum ≤ 8) (hdg : decode cc pc = .ok (.invokevirtual 605, 3)) (kk : ∀ (r : Int32) (τ1 : Sto) (H1 : Heap) (locs1 : List Loc), K r τ1 → tI D dA ad sz H0 τ1 H1 locs1 → W p l e R s m args below meth c H1 locs1 cells slots Q (F0 m (pc + 3) ls (.int r :: rest))) : W p l e R s m args below meth c H locs cells slots Q (F0 m pc ls (.int x2 :: .int x1 :: .ref (ad 0) :: rest)) :=
  rg_calli (rg_runV hC.1 hC.2.1 hI.1 hI.2.1 tl_0 rfl (met_qWordOf l D dA ad hC.2.2 sz τ x1 x2 K hT) (lw_V q2124 q2126 qs84 q170 q2127) 2 (by decide +kernel) ⟨rfl, rfl⟩ hR rfl hsz rfl hroom hf hdg) hI.2.2 (fun r τ1 H1 l1 hk hz hP hS => kk r τ1 H1 l1 hk ⟨hP, hz, hS⟩)
set_option maxHeartbeats 4000000 in
set_option maxRecDepth 100000 in
theorem met_takesSign (l : Launch) (D : va_G) (dA : Nat → ClassId) (ad : Nat → Nat) (hJ : rgJ twL ad) (sz : Nat) (τ : Sto) (x1 : Int32) (K : Int32 → Sto → Prop) (hT : T_takesSign τ x1 K) : Met l yX6_takesSign (ws_ yX6_takesSign cX6_takesSign 2 (some .boolean)) ({ frames := 2, cells := 0, slots := 0, locals := 32 }) (va_Pc [.ref (ad 0), .int x1] (rgU D vwCl dA twL ad sz τ)) (va_Qi K (rgU D vwCl dA twL ad sz) (rgAd twL ad)) 0 0 (rgAd twL ad) := by
  refine tw_metz hJ (by decide) rfl (Nat.le_of_ble_eq_true rfl) ?_
  intro p e s m args below meth c Q hC hret hI ls hl
  have hx := hC.1.1
  have hb := hC.1.2.1
  have hl : lv_has ls 2 [(0, .ref (ad 0)), (1, .int x1)] := hl
  unfold T_takesSign at hT
  refine lv_aload_n hx hb dX6_takesSign_0 rfl (lv_at hl 0 rfl) ?_
  refine tg_5 hC hI dX6_takesSign_1 ?_
  refine lv_if_ne (tgt := 15) hx hb dX6_takesSign_4 (by decide) (fun hc => ?_) (fun hc => ?_)
  · have hT := hT.1 hc
    refine lv_iconst (v := 0) hx hb dX6_takesSign_15 (by decide) ?_
    exact hret _ _ _ _ _ _ (by decide) hT hI dX6_takesSign_16
  · have hT := hT.2 hc
    refine lv_aload_n hx hb dX6_takesSign_7 rfl (lv_at hl 0 rfl) ?_
    refine tc_look hC hI hT ⟨Nat.le_of_ble_eq_true rfl, Nat.le_of_ble_eq_true rfl⟩ ⟨Nat.zero_le _, Nat.zero_le _⟩ hl.1 (Nat.le_of_ble_eq_true rfl) dX6_takesSign_8 (fun r2 τ1 H locs hT hI => ?_)
    refine lv_iload_n hx hb dX6_takesSign_11 rfl (lv_at hl 1 rfl) ?_
    refine lv_icmp_eq (tgt := 17) hx hb dX6_takesSign_12 (by decide) (fun hc => ?_) (fun hc => ?_)
    · have hT := hT.1 hc
      refine lv_aload_n hx hb dX6_takesSign_17 rfl (lv_at hl 0 rfl) ?_
      refine lv_dup hx hb dX6_takesSign_18 rfl ?_
      refine tg_2 hC hI dX6_takesSign_19 ?_
      refine lv_iconst (v := 1) hx hb dX6_takesSign_22 (by decide) ?_
      refine lv_iadd hx hb dX6_takesSign_23 ?_
      refine tp_2 hC hI hT dX6_takesSign_24 (fun τ3 H locs hT hI => ?_)
      refine lv_iconst (v := 1) hx hb dX6_takesSign_27 (by decide) ?_
      exact hret _ _ _ _ _ _ (by decide) hT hI dX6_takesSign_28
    · have hT := hT.2 hc
      refine lv_iconst (v := 0) hx hb dX6_takesSign_15 (by decide) ?_
      exact hret _ _ _ _ _ _ (by decide) hT hI dX6_takesSign_16
theorem tc_takesSign {p : Program} {l : Launch} {e : Env} {R : Room} {s : State} {m : MethodId} {args : Array Value} {below : List Frame} {meth : Method} {c : Code} {H : Heap} {locs : List Loc} {cells slots : Nat} {Q : State → Prop} {cc : ByteArray} {nL : Nat} {D : va_G} {dA : Nat → ClassId} {ad : Nat → Nat} {τ : Sto} {pc sz : Nat} {ls : Array Slot} {rest : List Value} {H0 : Heap} {x1 : Int32} {K : Int32 → Sto → Prop} (hC : tC p m c cc nL s args D dA ad) (hI : tI D dA ad sz H0 τ H locs) (hT : T_takesSign τ x1 K) (hR : 2 + 1 ≤ R.frames ∧ 8 + (2 + 11) + 32 ≤ R.locals) (hf : cells ≤ R.cells ∧ slots ≤ R.slots) (hsz : ls.size = nL) (hroom : (rest.map fun v => v.category).sum ≤ 8) (hdg : decode cc pc = .ok (.invokevirtual 280, 3)) (kk : ∀ (r : Int32) (τ1 : Sto) (H1 : Heap) (locs1 : List Loc), K r τ1 → tI D dA ad sz H0 τ1 H1 locs1 → W p l e R s m args below meth c H1 locs1 cells slots Q (F0 m (pc + 3) ls (.int r :: rest))) : W p l e R s m args below meth c H locs cells slots Q (F0 m pc ls (.int x1 :: .ref (ad 0) :: rest)) :=
  rg_calli (rg_runV hC.1 hC.2.1 hI.1 hI.2.1 tl_0 rfl (met_takesSign l D dA ad hC.2.2 sz τ x1 K hT) (lw_V q2140 q2142 qs88 q170 q2143) 1 (by decide +kernel) ⟨rfl, rfl⟩ hR rfl hsz rfl hroom hf hdg) hI.2.2 (fun r τ1 H1 l1 hk hz hP hS => kk r τ1 H1 l1 hk ⟨hP, hz, hS⟩)
set_option maxHeartbeats 4000000 in
set_option maxRecDepth 100000 in
theorem met_asksSign (l : Launch) (D : va_G) (dA : Nat → ClassId) (ad : Nat → Nat) (hJ : rgJ twL ad) (sz : Nat) (τ : Sto) (x1 : Int32) (K : Sto → Prop) (hT : T_asksSign τ x1 K) : Met l yX6_asksSign (ws_ yX6_asksSign cX6_asksSign 2 (none)) ({ frames := 3, cells := 0, slots := 0, locals := 53 }) (va_Pc [.ref (ad 0), .int x1] (rgU D vwCl dA twL ad sz τ)) (va_Qv K (rgU D vwCl dA twL ad sz) (rgAd twL ad)) 0 0 (rgAd twL ad) := by
  refine tw_metv hJ (by decide) rfl (Nat.le_of_ble_eq_true rfl) ?_
  intro p e s m args below meth c Q hC hret hI ls hl
  have hx := hC.1.1
  have hb := hC.1.2.1
  have hl : lv_has ls 2 [(0, .ref (ad 0)), (1, .int x1)] := hl
  unfold T_asksSign at hT
  refine lv_aload_n hx hb dX6_asksSign_0 rfl (lv_at hl 0 rfl) ?_
  refine tg_5 hC hI dX6_asksSign_1 ?_
  refine lv_if_ne (tgt := 24) hx hb dX6_asksSign_4 (by decide) (fun hc => ?_) (fun hc => ?_)
  · have hT := hT.1 hc
    exact hret _ _ _ _ _ hT hI dX6_asksSign_24
  · have hT := hT.2 hc
    refine lv_aload_n hx hb dX6_asksSign_7 rfl (lv_at hl 0 rfl) ?_
    refine lv_iload_n hx hb dX6_asksSign_8 rfl (lv_at hl 1 rfl) ?_
    refine tc_takesSign hC hI hT ⟨Nat.le_of_ble_eq_true rfl, Nat.le_of_ble_eq_true rfl⟩ ⟨Nat.zero_le _, Nat.zero_le _⟩ hl.1 (Nat.le_of_ble_eq_true rfl) dX6_asksSign_9 (fun r2 τ1 H locs hT hI => ?_)
    refine lv_if_ne (tgt := 24) hx hb dX6_asksSign_12 (by decide) (fun hc => ?_) (fun hc => ?_)
    · have hT := hT.1 hc
      exact hret _ _ _ _ _ hT hI dX6_asksSign_24
    · have hT := hT.2 hc
      refine lv_aload_n hx hb dX6_asksSign_15 rfl (lv_at hl 0 rfl) ?_
      refine lv_iconst (v := 1) hx hb dX6_asksSign_16 (by decide) ?_
      refine lv_aload_n hx hb dX6_asksSign_17 rfl (lv_at hl 0 rfl) ?_
      refine tg_2 hC hI dX6_asksSign_18 ?_
      refine tc_fail hC hI hT ⟨Nat.le_of_ble_eq_true rfl, Nat.le_of_ble_eq_true rfl⟩ ⟨Nat.zero_le _, Nat.zero_le _⟩ hl.1 (Nat.le_of_ble_eq_true rfl) dX6_asksSign_21 (fun τ3 H locs hT hI => ?_)
      exact hret _ _ _ _ _ hT hI dX6_asksSign_24
theorem tc_asksSign {p : Program} {l : Launch} {e : Env} {R : Room} {s : State} {m : MethodId} {args : Array Value} {below : List Frame} {meth : Method} {c : Code} {H : Heap} {locs : List Loc} {cells slots : Nat} {Q : State → Prop} {cc : ByteArray} {nL : Nat} {D : va_G} {dA : Nat → ClassId} {ad : Nat → Nat} {τ : Sto} {pc sz : Nat} {ls : Array Slot} {rest : List Value} {H0 : Heap} {x1 : Int32} {K : Sto → Prop} (hC : tC p m c cc nL s args D dA ad) (hI : tI D dA ad sz H0 τ H locs) (hT : T_asksSign τ x1 K) (hR : 3 + 1 ≤ R.frames ∧ 8 + (2 + 11) + 53 ≤ R.locals) (hf : cells ≤ R.cells ∧ slots ≤ R.slots) (hsz : ls.size = nL) (hroom : (rest.map fun v => v.category).sum ≤ 8) (hdg : decode cc pc = .ok (.invokevirtual 374, 3)) (kk : ∀ (τ1 : Sto) (H1 : Heap) (locs1 : List Loc), K τ1 → tI D dA ad sz H0 τ1 H1 locs1 → W p l e R s m args below meth c H1 locs1 cells slots Q (F0 m (pc + 3) ls (rest))) : W p l e R s m args below meth c H locs cells slots Q (F0 m pc ls (.int x1 :: .ref (ad 0) :: rest)) :=
  rg_callv (rg_runV hC.1 hC.2.1 hI.1 hI.2.1 tl_0 rfl (met_asksSign l D dA ad hC.2.2 sz τ x1 K hT) (lw_V q2136 q2138 qs87 q170 q2139) 1 (by decide +kernel) ⟨rfl, rfl⟩ hR rfl hsz rfl hroom hf hdg) hI.2.2 (fun τ1 H1 l1 hk hz hP hS => kk τ1 H1 l1 hk ⟨hP, hz, hS⟩)
set_option maxHeartbeats 4000000 in
set_option maxRecDepth 100000 in
theorem met_qAsksWord (l : Launch) (D : va_G) (dA : Nat → ClassId) (ad : Nat → Nat) (hJ : rgJ twL ad) (sz : Nat) (τ : Sto) (x1 : Int32) (K : Sto → Prop) (hT : T_qAsksWord τ x1 K) : Met l yX6_qAsksWord (ws_ yX6_qAsksWord cX6_qAsksWord 2 (none)) ({ frames := 5, cells := 0, slots := 0, locals := 97 }) (va_Pc [.ref (ad 0), .int x1] (rgU D vwCl dA twL ad sz τ)) (va_Qv K (rgU D vwCl dA twL ad sz) (rgAd twL ad)) 0 0 (rgAd twL ad) := by
  refine tw_metv hJ (by decide) rfl (Nat.le_of_ble_eq_true rfl) ?_
  intro p e s m args below meth c Q hC hret hI ls hl
  have hx := hC.1.1
  have hb := hC.1.2.1
  have hl : lv_has ls 2 [(0, .ref (ad 0)), (1, .int x1)] := hl
  unfold T_qAsksWord at hT
  refine lv_iload_n hx hb dX6_qAsksWord_0 rfl (lv_at hl 1 rfl) ?_
  by_cases c0 : x1 = 0
  · have hT := hT.1 c0
    refine lv_tableIn (tgt := 56) hx hb dX6_qAsksWord_1 (by rw [c0]; decide) (by rw [c0]; decide) (by rw [c0]; rfl) (by decide) ?_
    refine lv_aload_n hx hb dX6_qAsksWord_56 rfl (lv_at hl 0 rfl) ?_
    refine lv_aload_n hx hb dX6_qAsksWord_57 rfl (lv_at hl 0 rfl) ?_
    refine tg_80 hC hI dX6_qAsksWord_58 ?_
    refine tc_asks hC hI hT ⟨Nat.le_of_ble_eq_true rfl, Nat.le_of_ble_eq_true rfl⟩ ⟨Nat.zero_le _, Nat.zero_le _⟩ hl.1 (Nat.le_of_ble_eq_true rfl) dX6_qAsksWord_61 (fun τ1 H locs hT hI => ?_)
    refine lv_goto (tgt := 174) hx hb dX6_qAsksWord_64 (by decide) ?_
    exact hret _ _ _ _ _ hT hI dX6_qAsksWord_174
  have hT := hT.2 c0
  by_cases c1 : x1 = 1
  · have hT := hT.1 c1
    refine lv_tableIn (tgt := 67) hx hb dX6_qAsksWord_1 (by rw [c1]; decide) (by rw [c1]; decide) (by rw [c1]; rfl) (by decide) ?_
    refine lv_aload_n hx hb dX6_qAsksWord_67 rfl (lv_at hl 0 rfl) ?_
    refine lv_aload_n hx hb dX6_qAsksWord_68 rfl (lv_at hl 0 rfl) ?_
    refine tg_81 hC hI dX6_qAsksWord_69 ?_
    refine tc_asks hC hI hT ⟨Nat.le_of_ble_eq_true rfl, Nat.le_of_ble_eq_true rfl⟩ ⟨Nat.zero_le _, Nat.zero_le _⟩ hl.1 (Nat.le_of_ble_eq_true rfl) dX6_qAsksWord_72 (fun τ2 H locs hT hI => ?_)
    refine lv_goto (tgt := 174) hx hb dX6_qAsksWord_75 (by decide) ?_
    exact hret _ _ _ _ _ hT hI dX6_qAsksWord_174
  have hT := hT.2 c1
  by_cases c2 : x1 = 2
  · have hT := hT.1 c2
    refine lv_tableIn (tgt := 78) hx hb dX6_qAsksWord_1 (by rw [c2]; decide) (by rw [c2]; decide) (by rw [c2]; rfl) (by decide) ?_
    refine lv_aload_n hx hb dX6_qAsksWord_78 rfl (lv_at hl 0 rfl) ?_
    refine lv_aload_n hx hb dX6_qAsksWord_79 rfl (lv_at hl 0 rfl) ?_
    refine tg_82 hC hI dX6_qAsksWord_80 ?_
    refine tc_asks hC hI hT ⟨Nat.le_of_ble_eq_true rfl, Nat.le_of_ble_eq_true rfl⟩ ⟨Nat.zero_le _, Nat.zero_le _⟩ hl.1 (Nat.le_of_ble_eq_true rfl) dX6_qAsksWord_83 (fun τ3 H locs hT hI => ?_)
    refine lv_goto (tgt := 174) hx hb dX6_qAsksWord_86 (by decide) ?_
    exact hret _ _ _ _ _ hT hI dX6_qAsksWord_174
  have hT := hT.2 c2
  by_cases c3 : x1 = 3
  · have hT := hT.1 c3
    refine lv_tableIn (tgt := 89) hx hb dX6_qAsksWord_1 (by rw [c3]; decide) (by rw [c3]; decide) (by rw [c3]; rfl) (by decide) ?_
    refine lv_aload_n hx hb dX6_qAsksWord_89 rfl (lv_at hl 0 rfl) ?_
    refine lv_aload_n hx hb dX6_qAsksWord_90 rfl (lv_at hl 0 rfl) ?_
    refine tg_83 hC hI dX6_qAsksWord_91 ?_
    refine tc_asks hC hI hT ⟨Nat.le_of_ble_eq_true rfl, Nat.le_of_ble_eq_true rfl⟩ ⟨Nat.zero_le _, Nat.zero_le _⟩ hl.1 (Nat.le_of_ble_eq_true rfl) dX6_qAsksWord_94 (fun τ4 H locs hT hI => ?_)
    refine lv_goto (tgt := 174) hx hb dX6_qAsksWord_97 (by decide) ?_
    exact hret _ _ _ _ _ hT hI dX6_qAsksWord_174
  have hT := hT.2 c3
  by_cases c4 : x1 = 4
  · have hT := hT.1 c4
    refine lv_tableIn (tgt := 100) hx hb dX6_qAsksWord_1 (by rw [c4]; decide) (by rw [c4]; decide) (by rw [c4]; rfl) (by decide) ?_
    refine lv_aload_n hx hb dX6_qAsksWord_100 rfl (lv_at hl 0 rfl) ?_
    refine lv_aload_n hx hb dX6_qAsksWord_101 rfl (lv_at hl 0 rfl) ?_
    refine tg_84 hC hI dX6_qAsksWord_102 ?_
    refine tc_asks hC hI hT ⟨Nat.le_of_ble_eq_true rfl, Nat.le_of_ble_eq_true rfl⟩ ⟨Nat.zero_le _, Nat.zero_le _⟩ hl.1 (Nat.le_of_ble_eq_true rfl) dX6_qAsksWord_105 (fun τ5 H locs hT hI => ?_)
    refine lv_goto (tgt := 174) hx hb dX6_qAsksWord_108 (by decide) ?_
    exact hret _ _ _ _ _ hT hI dX6_qAsksWord_174
  have hT := hT.2 c4
  by_cases c5 : x1 = 5
  · have hT := hT.1 c5
    refine lv_tableIn (tgt := 111) hx hb dX6_qAsksWord_1 (by rw [c5]; decide) (by rw [c5]; decide) (by rw [c5]; rfl) (by decide) ?_
    refine lv_aload_n hx hb dX6_qAsksWord_111 rfl (lv_at hl 0 rfl) ?_
    refine lv_aload_n hx hb dX6_qAsksWord_112 rfl (lv_at hl 0 rfl) ?_
    refine tg_85 hC hI dX6_qAsksWord_113 ?_
    refine tc_asks hC hI hT ⟨Nat.le_of_ble_eq_true rfl, Nat.le_of_ble_eq_true rfl⟩ ⟨Nat.zero_le _, Nat.zero_le _⟩ hl.1 (Nat.le_of_ble_eq_true rfl) dX6_qAsksWord_116 (fun τ6 H locs hT hI => ?_)
    refine lv_goto (tgt := 174) hx hb dX6_qAsksWord_119 (by decide) ?_
    exact hret _ _ _ _ _ hT hI dX6_qAsksWord_174
  have hT := hT.2 c5
  by_cases c6 : x1 = 6
  · have hT := hT.1 c6
    refine lv_tableIn (tgt := 122) hx hb dX6_qAsksWord_1 (by rw [c6]; decide) (by rw [c6]; decide) (by rw [c6]; rfl) (by decide) ?_
    refine lv_aload_n hx hb dX6_qAsksWord_122 rfl (lv_at hl 0 rfl) ?_
    refine lv_aload_n hx hb dX6_qAsksWord_123 rfl (lv_at hl 0 rfl) ?_
    refine tg_86 hC hI dX6_qAsksWord_124 ?_
    refine tc_asks hC hI hT ⟨Nat.le_of_ble_eq_true rfl, Nat.le_of_ble_eq_true rfl⟩ ⟨Nat.zero_le _, Nat.zero_le _⟩ hl.1 (Nat.le_of_ble_eq_true rfl) dX6_qAsksWord_127 (fun τ7 H locs hT hI => ?_)
    refine lv_goto (tgt := 174) hx hb dX6_qAsksWord_130 (by decide) ?_
    exact hret _ _ _ _ _ hT hI dX6_qAsksWord_174
  have hT := hT.2 c6
  by_cases c7 : x1 = 7
  · have hT := hT.1 c7
    refine lv_tableIn (tgt := 133) hx hb dX6_qAsksWord_1 (by rw [c7]; decide) (by rw [c7]; decide) (by rw [c7]; rfl) (by decide) ?_
    refine lv_aload_n hx hb dX6_qAsksWord_133 rfl (lv_at hl 0 rfl) ?_
    refine lv_aload_n hx hb dX6_qAsksWord_134 rfl (lv_at hl 0 rfl) ?_
    refine tg_87 hC hI dX6_qAsksWord_135 ?_
    refine tc_asks hC hI hT ⟨Nat.le_of_ble_eq_true rfl, Nat.le_of_ble_eq_true rfl⟩ ⟨Nat.zero_le _, Nat.zero_le _⟩ hl.1 (Nat.le_of_ble_eq_true rfl) dX6_qAsksWord_138 (fun τ8 H locs hT hI => ?_)
    refine lv_goto (tgt := 174) hx hb dX6_qAsksWord_141 (by decide) ?_
    exact hret _ _ _ _ _ hT hI dX6_qAsksWord_174
  have hT := hT.2 c7
  by_cases c8 : x1 = 8
  · have hT := hT.1 c8
    refine lv_tableIn (tgt := 144) hx hb dX6_qAsksWord_1 (by rw [c8]; decide) (by rw [c8]; decide) (by rw [c8]; rfl) (by decide) ?_
    refine lv_aload_n hx hb dX6_qAsksWord_144 rfl (lv_at hl 0 rfl) ?_
    refine lv_aload_n hx hb dX6_qAsksWord_145 rfl (lv_at hl 0 rfl) ?_
    refine tg_88 hC hI dX6_qAsksWord_146 ?_
    refine tc_asks hC hI hT ⟨Nat.le_of_ble_eq_true rfl, Nat.le_of_ble_eq_true rfl⟩ ⟨Nat.zero_le _, Nat.zero_le _⟩ hl.1 (Nat.le_of_ble_eq_true rfl) dX6_qAsksWord_149 (fun τ9 H locs hT hI => ?_)
    refine lv_goto (tgt := 174) hx hb dX6_qAsksWord_152 (by decide) ?_
    exact hret _ _ _ _ _ hT hI dX6_qAsksWord_174
  have hT := hT.2 c8
  by_cases c9 : x1 = 9
  · have hT := hT.1 c9
    refine lv_tableIn (tgt := 155) hx hb dX6_qAsksWord_1 (by rw [c9]; decide) (by rw [c9]; decide) (by rw [c9]; rfl) (by decide) ?_
    refine lv_aload_n hx hb dX6_qAsksWord_155 rfl (lv_at hl 0 rfl) ?_
    refine lv_aload_n hx hb dX6_qAsksWord_156 rfl (lv_at hl 0 rfl) ?_
    refine tg_89 hC hI dX6_qAsksWord_157 ?_
    refine tc_asks hC hI hT ⟨Nat.le_of_ble_eq_true rfl, Nat.le_of_ble_eq_true rfl⟩ ⟨Nat.zero_le _, Nat.zero_le _⟩ hl.1 (Nat.le_of_ble_eq_true rfl) dX6_qAsksWord_160 (fun τ10 H locs hT hI => ?_)
    refine lv_goto (tgt := 174) hx hb dX6_qAsksWord_163 (by decide) ?_
    exact hret _ _ _ _ _ hT hI dX6_qAsksWord_174
  have hT := hT.2 c9
  refine lv_tableOut (tgt := 166) hx hb dX6_qAsksWord_1 (ts_out0 (n := 10) (by decide) (fun k hk => by rcases (show k = 0 ∨ k = 1 ∨ k = 2 ∨ k = 3 ∨ k = 4 ∨ k = 5 ∨ k = 6 ∨ k = 7 ∨ k = 8 ∨ k = 9 by omega) with rfl | rfl | rfl | rfl | rfl | rfl | rfl | rfl | rfl | rfl <;> assumption)) (by decide) ?_
  refine lv_aload_n hx hb dX6_qAsksWord_166 rfl (lv_at hl 0 rfl) ?_
  refine lv_aload_n hx hb dX6_qAsksWord_167 rfl (lv_at hl 0 rfl) ?_
  refine tg_90 hC hI dX6_qAsksWord_168 ?_
  refine tc_asks hC hI hT ⟨Nat.le_of_ble_eq_true rfl, Nat.le_of_ble_eq_true rfl⟩ ⟨Nat.zero_le _, Nat.zero_le _⟩ hl.1 (Nat.le_of_ble_eq_true rfl) dX6_qAsksWord_171 (fun τ11 H locs hT hI => ?_)
  exact hret _ _ _ _ _ hT hI dX6_qAsksWord_174
theorem tc_qAsksWord {p : Program} {l : Launch} {e : Env} {R : Room} {s : State} {m : MethodId} {args : Array Value} {below : List Frame} {meth : Method} {c : Code} {H : Heap} {locs : List Loc} {cells slots : Nat} {Q : State → Prop} {cc : ByteArray} {nL : Nat} {D : va_G} {dA : Nat → ClassId} {ad : Nat → Nat} {τ : Sto} {pc sz : Nat} {ls : Array Slot} {rest : List Value} {H0 : Heap} {x1 : Int32} {K : Sto → Prop} (hC : tC p m c cc nL s args D dA ad) (hI : tI D dA ad sz H0 τ H locs) (hT : T_qAsksWord τ x1 K) (hR : 5 + 1 ≤ R.frames ∧ 8 + (2 + 11) + 97 ≤ R.locals) (hf : cells ≤ R.cells ∧ slots ≤ R.slots) (hsz : ls.size = nL) (hroom : (rest.map fun v => v.category).sum ≤ 8) (hdg : decode cc pc = .ok (.invokevirtual 611, 3)) (kk : ∀ (τ1 : Sto) (H1 : Heap) (locs1 : List Loc), K τ1 → tI D dA ad sz H0 τ1 H1 locs1 → W p l e R s m args below meth c H1 locs1 cells slots Q (F0 m (pc + 3) ls (rest))) : W p l e R s m args below meth c H locs cells slots Q (F0 m pc ls (.int x1 :: .ref (ad 0) :: rest)) :=
  rg_callv (rg_runV hC.1 hC.2.1 hI.1 hI.2.1 tl_0 rfl (met_qAsksWord l D dA ad hC.2.2 sz τ x1 K hT) (lw_V q2144 q2146 qs89 q170 q2147) 1 (by decide +kernel) ⟨rfl, rfl⟩ hR rfl hsz rfl hroom hf hdg) hI.2.2 (fun τ1 H1 l1 hk hz hP hS => kk τ1 H1 l1 hk ⟨hP, hz, hS⟩)
set_option maxHeartbeats 4000000 in
set_option maxRecDepth 100000 in
theorem met_qDrops (l : Launch) (D : va_G) (dA : Nat → ClassId) (ad : Nat → Nat) (hJ : rgJ twL ad) (sz : Nat) (τ : Sto) (K : Sto → Prop) (hT : T_qDrops τ K) : Met l yX6_qDrops (ws_ yX6_qDrops cX6_qDrops 1 (none)) ({ frames := 2, cells := 0, slots := 0, locals := 33 }) (va_Pc [.ref (ad 0)] (rgU D vwCl dA twL ad sz τ)) (va_Qv K (rgU D vwCl dA twL ad sz) (rgAd twL ad)) 0 0 (rgAd twL ad) := by
  refine tw_metv hJ (by decide) rfl (Nat.le_of_ble_eq_true rfl) ?_
  intro p e s m args below meth c Q hC hret hI ls hl
  have hx := hC.1.1
  have hb := hC.1.2.1
  have hl : lv_has ls 1 [(0, .ref (ad 0))] := hl
  unfold T_qDrops at hT
  refine lv_aload_n hx hb dX6_qDrops_0 rfl (lv_at hl 0 rfl) ?_
  refine lv_dup hx hb dX6_qDrops_1 rfl ?_
  refine tg_94 hC hI dX6_qDrops_2 ?_
  refine lv_iconst (v := 1) hx hb dX6_qDrops_5 (by decide) ?_
  refine lv_isub hx hb dX6_qDrops_6 ?_
  refine tp_94 hC hI hT dX6_qDrops_7 (fun τ1 H locs hT hI => ?_)
  refine lv_aload_n hx hb dX6_qDrops_10 rfl (lv_at hl 0 rfl) ?_
  refine lv_aload_n hx hb dX6_qDrops_11 rfl (lv_at hl 0 rfl) ?_
  refine tg_93 hC hI dX6_qDrops_12 ?_
  refine lv_aload_n hx hb dX6_qDrops_15 rfl (lv_at hl 0 rfl) ?_
  refine tg_94 hC hI dX6_qDrops_16 ?_
  refine tw_iald hC hI tl_94 hT dX6_qDrops_19 (fun hT => ?_)
  refine tc_qCode hC hI hT ⟨Nat.le_of_ble_eq_true rfl, Nat.le_of_ble_eq_true rfl⟩ ⟨Nat.zero_le _, Nat.zero_le _⟩ hl.1 (Nat.le_of_ble_eq_true rfl) dX6_qDrops_20 (fun τ2 H locs hT hI => ?_)
  exact hret _ _ _ _ _ hT hI dX6_qDrops_23
theorem tc_qDrops {p : Program} {l : Launch} {e : Env} {R : Room} {s : State} {m : MethodId} {args : Array Value} {below : List Frame} {meth : Method} {c : Code} {H : Heap} {locs : List Loc} {cells slots : Nat} {Q : State → Prop} {cc : ByteArray} {nL : Nat} {D : va_G} {dA : Nat → ClassId} {ad : Nat → Nat} {τ : Sto} {pc sz : Nat} {ls : Array Slot} {rest : List Value} {H0 : Heap} {K : Sto → Prop} (hC : tC p m c cc nL s args D dA ad) (hI : tI D dA ad sz H0 τ H locs) (hT : T_qDrops τ K) (hR : 2 + 1 ≤ R.frames ∧ 8 + (1 + 11) + 33 ≤ R.locals) (hf : cells ≤ R.cells ∧ slots ≤ R.slots) (hsz : ls.size = nL) (hroom : (rest.map fun v => v.category).sum ≤ 8) (hdg : decode cc pc = .ok (.invokevirtual 596, 3)) (kk : ∀ (τ1 : Sto) (H1 : Heap) (locs1 : List Loc), K τ1 → tI D dA ad sz H0 τ1 H1 locs1 → W p l e R s m args below meth c H1 locs1 cells slots Q (F0 m (pc + 3) ls (rest))) : W p l e R s m args below meth c H locs cells slots Q (F0 m pc ls (.ref (ad 0) :: rest)) :=
  rg_callv (rg_runV hC.1 hC.2.1 hI.1 hI.2.1 tl_0 rfl (met_qDrops l D dA ad hC.2.2 sz τ K hT) (lw_V q2152 q2154 qs91 q170 q2155) 0 (by decide +kernel) ⟨rfl, rfl⟩ hR rfl hsz rfl hroom hf hdg) hI.2.2 (fun τ1 H1 l1 hk hz hP hS => kk τ1 H1 l1 hk ⟨hP, hz, hS⟩)
set_option maxHeartbeats 4000000 in
set_option maxRecDepth 100000 in
theorem met_qEndsPart (l : Launch) (D : va_G) (dA : Nat → ClassId) (ad : Nat → Nat) (hJ : rgJ twL ad) (sz : Nat) (τ : Sto) (K : Sto → Prop) (hT : T_qEndsPart τ K) : Met l yX6_qEndsPart (ws_ yX6_qEndsPart cX6_qEndsPart 1 (none)) ({ frames := 3, cells := 0, slots := 0, locals := 53 }) (va_Pc [.ref (ad 0)] (rgU D vwCl dA twL ad sz τ)) (va_Qv K (rgU D vwCl dA twL ad sz) (rgAd twL ad)) 0 0 (rgAd twL ad) := by
  refine tw_metv hJ (by decide) rfl (Nat.le_of_ble_eq_true rfl) ?_
  intro p e s m args below meth c Q hC hret hI ls hl
  have hx := hC.1.1
  have hb := hC.1.2.1
  have hl : lv_has ls 1 [(0, .ref (ad 0))] := hl
  have w_0 : ∀ (n : Nat) (τ : Sto) (H : Heap) (locs : List Loc) (ls : Array Slot), T_qEndsPart_0 K n τ → tI D dA ad sz s.heap τ H locs → lv_has ls 1 [(0, .ref (ad 0))] → W p l e ({ frames := 3, cells := 0, slots := 0, locals := 53 }) s m args below meth c H locs 0 0 Q (F0 m 0 ls []) := by
    intro n
    induction n with
    | zero => intro τ H locs ls hT; exact hT.elim
    | succ n ih =>
      intro τ H locs ls hT hI hl
      unfold T_qEndsPart_0 at hT
      refine lv_aload_n hx hb dX6_qEndsPart_0 rfl (lv_at hl 0 rfl) ?_
      refine tg_5 hC hI dX6_qEndsPart_1 ?_
      refine lv_if_ne (tgt := 51) hx hb dX6_qEndsPart_4 (by decide) (fun hc => ?_) (fun hc => ?_)
      · have hT := hT.1 hc
        exact hret _ _ _ _ _ hT hI dX6_qEndsPart_51
      · have hT := hT.2 hc
        refine lv_aload_n hx hb dX6_qEndsPart_7 rfl (lv_at hl 0 rfl) ?_
        refine tg_94 hC hI dX6_qEndsPart_8 ?_
        refine lv_aload_n hx hb dX6_qEndsPart_11 rfl (lv_at hl 0 rfl) ?_
        refine tg_96 hC hI dX6_qEndsPart_12 ?_
        refine lv_icmp_le (tgt := 51) hx hb dX6_qEndsPart_15 (by decide) (fun hc => ?_) (fun hc => ?_)
        · have hT := hT.1 hc
          exact hret _ _ _ _ _ hT hI dX6_qEndsPart_51
        · have hT := hT.2 hc
          refine lv_aload_n hx hb dX6_qEndsPart_18 rfl (lv_at hl 0 rfl) ?_
          refine tg_93 hC hI dX6_qEndsPart_19 ?_
          refine lv_aload_n hx hb dX6_qEndsPart_22 rfl (lv_at hl 0 rfl) ?_
          refine tg_94 hC hI dX6_qEndsPart_23 ?_
          refine lv_iconst (v := 1) hx hb dX6_qEndsPart_26 (by decide) ?_
          refine lv_isub hx hb dX6_qEndsPart_27 ?_
          refine tw_iald hC hI tl_94 hT dX6_qEndsPart_28 (fun hT => ?_)
          refine lv_bipush (v := 60) hx hb dX6_qEndsPart_29 (by decide) ?_
          refine lv_icmp_lt (tgt := 51) hx hb dX6_qEndsPart_31 (by decide) (fun hc => ?_) (fun hc => ?_)
          · have hT := hT.1 hc
            exact hret _ _ _ _ _ hT hI dX6_qEndsPart_51
          · have hT := hT.2 hc
            refine lv_aload_n hx hb dX6_qEndsPart_34 rfl (lv_at hl 0 rfl) ?_
            refine lv_dup hx hb dX6_qEndsPart_35 rfl ?_
            refine tg_95 hC hI dX6_qEndsPart_36 ?_
            refine lv_iconst (v := 1) hx hb dX6_qEndsPart_39 (by decide) ?_
            refine lv_isub hx hb dX6_qEndsPart_40 ?_
            refine tp_95 hC hI hT dX6_qEndsPart_41 (fun τ1 H locs hT hI => ?_)
            refine lv_aload_n hx hb dX6_qEndsPart_44 rfl (lv_at hl 0 rfl) ?_
            refine tc_qDrops hC hI hT ⟨Nat.le_of_ble_eq_true rfl, Nat.le_of_ble_eq_true rfl⟩ ⟨Nat.zero_le _, Nat.zero_le _⟩ hl.1 (Nat.le_of_ble_eq_true rfl) dX6_qEndsPart_45 (fun τ2 H locs hT hI => ?_)
            refine lv_goto (tgt := 0) hx hb dX6_qEndsPart_48 (by decide) ?_
            exact ih τ2 _ _ _ hT hI (lv_sub hl [0] rfl)
  unfold T_qEndsPart at hT
  obtain ⟨n0, hT⟩ := hT
  exact w_0 n0 τ _ _ _ hT hI (lv_sub hl [0] rfl)
theorem tc_qEndsPart {p : Program} {l : Launch} {e : Env} {R : Room} {s : State} {m : MethodId} {args : Array Value} {below : List Frame} {meth : Method} {c : Code} {H : Heap} {locs : List Loc} {cells slots : Nat} {Q : State → Prop} {cc : ByteArray} {nL : Nat} {D : va_G} {dA : Nat → ClassId} {ad : Nat → Nat} {τ : Sto} {pc sz : Nat} {ls : Array Slot} {rest : List Value} {H0 : Heap} {K : Sto → Prop} (hC : tC p m c cc nL s args D dA ad) (hI : tI D dA ad sz H0 τ H locs) (hT : T_qEndsPart τ K) (hR : 3 + 1 ≤ R.frames ∧ 8 + (1 + 11) + 53 ≤ R.locals) (hf : cells ≤ R.cells ∧ slots ≤ R.slots) (hsz : ls.size = nL) (hroom : (rest.map fun v => v.category).sum ≤ 8) (hdg : decode cc pc = .ok (.invokevirtual 614, 3)) (kk : ∀ (τ1 : Sto) (H1 : Heap) (locs1 : List Loc), K τ1 → tI D dA ad sz H0 τ1 H1 locs1 → W p l e R s m args below meth c H1 locs1 cells slots Q (F0 m (pc + 3) ls (rest))) : W p l e R s m args below meth c H locs cells slots Q (F0 m pc ls (.ref (ad 0) :: rest)) :=
  rg_callv (rg_runV hC.1 hC.2.1 hI.1 hI.2.1 tl_0 rfl (met_qEndsPart l D dA ad hC.2.2 sz τ K hT) (lw_V q2148 q2150 qs90 q170 q2151) 0 (by decide +kernel) ⟨rfl, rfl⟩ hR rfl hsz rfl hroom hf hdg) hI.2.2 (fun τ1 H1 l1 hk hz hP hS => kk τ1 H1 l1 hk ⟨hP, hz, hS⟩)
set_option maxHeartbeats 4000000 in
set_option maxRecDepth 100000 in
theorem met_qPartTold (l : Launch) (D : va_G) (dA : Nat → ClassId) (ad : Nat → Nat) (hJ : rgJ twL ad) (sz : Nat) (τ : Sto) (K : Sto → Prop) (hT : T_qPartTold τ K) : Met l yX6_qPartTold (ws_ yX6_qPartTold cX6_qPartTold 6 (none)) ({ frames := 6, cells := 0, slots := 0, locals := 118 }) (va_Pc [.ref (ad 0)] (rgU D vwCl dA twL ad sz τ)) (va_Qv K (rgU D vwCl dA twL ad sz) (rgAd twL ad)) 0 0 (rgAd twL ad) := by
  refine tw_metv hJ (by decide) rfl (Nat.le_of_ble_eq_true rfl) ?_
  intro p e s m args below meth c Q hC hret hI ls hl
  have hx := hC.1.1
  have hb := hC.1.2.1
  have hl : lv_has ls 6 [(0, .ref (ad 0))] := hl
  have w_212 : ∀ (x2 : Int32) (τ : Sto) (H : Heap) (locs : List Loc) (ls : Array Slot), T_qPartTold_212 K x2 τ → tI D dA ad sz s.heap τ H locs → lv_has ls 6 [(0, .ref (ad 0)), (2, .int x2)] → W p l e ({ frames := 6, cells := 0, slots := 0, locals := 118 }) s m args below meth c H locs 0 0 Q (F0 m 212 ls []) := by
    intro x2 τ H locs ls hT hI hl
    unfold T_qPartTold_212 at hT
    refine lv_aload_n hx hb dX6_qPartTold_212 rfl (lv_at hl 0 rfl) ?_
    refine lv_iload_n hx hb dX6_qPartTold_213 rfl (lv_at hl 1 rfl) ?_
    refine lv_iconst (v := -1) hx hb dX6_qPartTold_214 (by decide) ?_
    refine lv_icmp_eq (tgt := 225) hx hb dX6_qPartTold_215 (by decide) (fun hc => ?_) (fun hc => ?_)
    · have hT := hT.1 hc
      refine lv_sipush (v := 1000) hx hb dX6_qPartTold_225 (by decide) ?_
      refine lv_aload_n hx hb dX6_qPartTold_228 rfl (lv_at hl 0 rfl) ?_
      refine lv_iconst (v := 0) hx hb dX6_qPartTold_229 (by decide) ?_
      refine lv_sipush (v := 9999) hx hb dX6_qPartTold_230 (by decide) ?_
      refine tc_number hC hI hT ⟨Nat.le_of_ble_eq_true rfl, Nat.le_of_ble_eq_true rfl⟩ ⟨Nat.zero_le _, Nat.zero_le _⟩ hl.1 (Nat.le_of_ble_eq_true rfl) dX6_qPartTold_233 (fun r2 τ1 H locs hT hI => ?_)
      refine lv_iadd hx hb dX6_qPartTold_236 ?_
      refine tc_qCode hC hI hT ⟨Nat.le_of_ble_eq_true rfl, Nat.le_of_ble_eq_true rfl⟩ ⟨Nat.zero_le _, Nat.zero_le _⟩ hl.1 (Nat.le_of_ble_eq_true rfl) dX6_qPartTold_237 (fun τ3 H locs hT hI => ?_)
      refine lv_aload_n hx hb dX6_qPartTold_240 rfl (lv_at hl 0 rfl) ?_
      refine tc_qEndsPart hC hI hT ⟨Nat.le_of_ble_eq_true rfl, Nat.le_of_ble_eq_true rfl⟩ ⟨Nat.zero_le _, Nat.zero_le _⟩ hl.1 (Nat.le_of_ble_eq_true rfl) dX6_qPartTold_241 (fun τ4 H locs hT hI => ?_)
      exact hret _ _ _ _ _ hT hI dX6_qPartTold_244
    · have hT := hT.2 hc
      refine lv_bipush (v := 40) hx hb dX6_qPartTold_218 (by decide) ?_
      refine lv_iload_n hx hb dX6_qPartTold_220 rfl (lv_at hl 1 rfl) ?_
      refine lv_iadd hx hb dX6_qPartTold_221 ?_
      refine lv_goto (tgt := 237) hx hb dX6_qPartTold_222 (by decide) ?_
      refine tc_qCode hC hI hT ⟨Nat.le_of_ble_eq_true rfl, Nat.le_of_ble_eq_true rfl⟩ ⟨Nat.zero_le _, Nat.zero_le _⟩ hl.1 (Nat.le_of_ble_eq_true rfl) dX6_qPartTold_237 (fun τ5 H locs hT hI => ?_)
      refine lv_aload_n hx hb dX6_qPartTold_240 rfl (lv_at hl 0 rfl) ?_
      refine tc_qEndsPart hC hI hT ⟨Nat.le_of_ble_eq_true rfl, Nat.le_of_ble_eq_true rfl⟩ ⟨Nat.zero_le _, Nat.zero_le _⟩ hl.1 (Nat.le_of_ble_eq_true rfl) dX6_qPartTold_241 (fun τ6 H locs hT hI => ?_)
      exact hret _ _ _ _ _ hT hI dX6_qPartTold_244
  have w_186 : ∀ (τ : Sto) (H : Heap) (locs : List Loc) (ls : Array Slot), T_qPartTold_186 K τ → tI D dA ad sz s.heap τ H locs → lv_has ls 6 [(0, .ref (ad 0))] → W p l e ({ frames := 6, cells := 0, slots := 0, locals := 118 }) s m args below meth c H locs 0 0 Q (F0 m 186 ls []) := by
    intro τ H locs ls hT hI hl
    unfold T_qPartTold_186 at hT
    refine lv_aload_n hx hb dX6_qPartTold_186 rfl (lv_at hl 0 rfl) ?_
    refine tg_5 hC hI dX6_qPartTold_187 ?_
    refine lv_if_eq (tgt := 194) hx hb dX6_qPartTold_190 (by decide) (fun hc => ?_) (fun hc => ?_)
    · have hT := hT.1 hc
      refine lv_aload_n hx hb dX6_qPartTold_194 rfl (lv_at hl 0 rfl) ?_
      refine lv_iconst (v := 0) hx hb dX6_qPartTold_195 (by decide) ?_
      refine lv_bipush (v := 10) hx hb dX6_qPartTold_196 (by decide) ?_
      refine tc_qWordOf hC hI hT ⟨Nat.le_of_ble_eq_true rfl, Nat.le_of_ble_eq_true rfl⟩ ⟨Nat.zero_le _, Nat.zero_le _⟩ hl.1 (Nat.le_of_ble_eq_true rfl) dX6_qPartTold_198 (fun r8 τ7 H locs hT hI => ?_)
      refine lv_istore_n (lv' := [(2, .int r8), (0, .ref (ad 0))]) hx hb dX6_qPartTold_201 rfl hl (Nat.le_of_ble_eq_true rfl) rfl (fun ls hl => ?_)
      refine lv_iload_n hx hb dX6_qPartTold_202 rfl (lv_at hl 0 rfl) ?_
      refine lv_iconst (v := -1) hx hb dX6_qPartTold_203 (by decide) ?_
      refine lv_icmp_eq (tgt := 212) hx hb dX6_qPartTold_204 (by decide) (fun hc => ?_) (fun hc => ?_)
      · have hT := hT.1 hc
        exact w_212 r8 τ7 _ _ _ hT hI (lv_sub hl [1, 0] rfl)
      · have hT := hT.2 hc
        refine lv_aload_n hx hb dX6_qPartTold_207 rfl (lv_at hl 1 rfl) ?_
        refine lv_iload_n hx hb dX6_qPartTold_208 rfl (lv_at hl 0 rfl) ?_
        refine tc_qAsksWord hC hI hT ⟨Nat.le_of_ble_eq_true rfl, Nat.le_of_ble_eq_true rfl⟩ ⟨Nat.zero_le _, Nat.zero_le _⟩ hl.1 (Nat.le_of_ble_eq_true rfl) dX6_qPartTold_209 (fun τ9 H locs hT hI => ?_)
        exact w_212 r8 τ9 _ _ _ hT hI (lv_sub hl [1, 0] rfl)
    · have hT := hT.2 hc
      exact hret _ _ _ _ _ hT hI dX6_qPartTold_193
  have w_139 : ∀ (k2 : Int32 → Sto → Prop), (∀ (x1 : Int32) (τ : Sto) (H : Heap) (locs : List Loc) (ls : Array Slot), k2 x1 τ → tI D dA ad sz s.heap τ H locs → lv_has ls 6 [(0, .ref (ad 0)), (1, .int x1)] → W p l e ({ frames := 6, cells := 0, slots := 0, locals := 118 }) s m args below meth c H locs 0 0 Q (F0 m 2 ls [])) → ∀ (x1 : Int32) (x5 : Int32) (s0 : Int32) (τ : Sto) (H : Heap) (locs : List Loc) (ls : Array Slot), T_qPartTold_139 K k2 x1 x5 s0 τ → tI D dA ad sz s.heap τ H locs → lv_has ls 6 [(0, .ref (ad 0)), (1, .int x1), (5, .int x5)] → W p l e ({ frames := 6, cells := 0, slots := 0, locals := 118 }) s m args below meth c H locs 0 0 Q (F0 m 139 ls [.int s0, .ref (ad 0)]) := by
    intro k2 hk2 x1 x5 s0 τ H locs ls hT hI hl
    unfold T_qPartTold_139 at hT
    refine lv_iload hx hb dX6_qPartTold_139 (lv_at hl 2 rfl) ?_
    refine tc_qOpens hC hI hT ⟨Nat.le_of_ble_eq_true rfl, Nat.le_of_ble_eq_true rfl⟩ ⟨Nat.zero_le _, Nat.zero_le _⟩ hl.1 (Nat.le_of_ble_eq_true rfl) dX6_qPartTold_141 (fun τ10 H locs hT hI => ?_)
    refine lv_aload_n hx hb dX6_qPartTold_144 rfl (lv_at hl 0 rfl) ?_
    refine lv_bipush (v := 40) hx hb dX6_qPartTold_145 (by decide) ?_
    refine tc_asksSign hC hI hT ⟨Nat.le_of_ble_eq_true rfl, Nat.le_of_ble_eq_true rfl⟩ ⟨Nat.zero_le _, Nat.zero_le _⟩ hl.1 (Nat.le_of_ble_eq_true rfl) dX6_qPartTold_147 (fun τ11 H locs hT hI => ?_)
    refine lv_goto (tgt := 183) hx hb dX6_qPartTold_150 (by decide) ?_
    refine lv_goto (tgt := 2) hx hb dX6_qPartTold_183 (by decide) ?_
    exact hk2 x1 τ11 _ _ _ hT hI (lv_sub hl [0, 1] rfl)
  have w_118 : ∀ (k2 : Int32 → Sto → Prop), (∀ (x1 : Int32) (τ : Sto) (H : Heap) (locs : List Loc) (ls : Array Slot), k2 x1 τ → tI D dA ad sz s.heap τ H locs → lv_has ls 6 [(0, .ref (ad 0)), (1, .int x1)] → W p l e ({ frames := 6, cells := 0, slots := 0, locals := 118 }) s m args below meth c H locs 0 0 Q (F0 m 2 ls [])) → ∀ (x1 : Int32) (x4 : Int32) (s0 : Int32) (τ : Sto) (H : Heap) (locs : List Loc) (ls : Array Slot), T_qPartTold_118 K k2 x1 x4 s0 τ → tI D dA ad sz s.heap τ H locs → lv_has ls 6 [(0, .ref (ad 0)), (1, .int x1), (4, .int x4)] → W p l e ({ frames := 6, cells := 0, slots := 0, locals := 118 }) s m args below meth c H locs 0 0 Q (F0 m 118 ls [.int s0]) := by
    intro k2 hk2 x1 x4 s0 τ H locs ls hT hI hl
    unfold T_qPartTold_118 at hT
    refine lv_istore (lv' := [(5, .int s0), (0, .ref (ad 0)), (1, .int x1), (4, .int x4)]) hx hb dX6_qPartTold_118 hl (Nat.le_of_ble_eq_true rfl) rfl (fun ls hl => ?_)
    refine lv_iload hx hb dX6_qPartTold_120 (lv_at hl 0 rfl) ?_
    refine lv_iconst (v := -1) hx hb dX6_qPartTold_122 (by decide) ?_
    refine lv_icmp_eq (tgt := 144) hx hb dX6_qPartTold_123 (by decide) (fun hc => ?_) (fun hc => ?_)
    · have hT := hT.1 hc
      refine lv_aload_n hx hb dX6_qPartTold_144 rfl (lv_at hl 1 rfl) ?_
      refine lv_bipush (v := 40) hx hb dX6_qPartTold_145 (by decide) ?_
      refine tc_asksSign hC hI hT ⟨Nat.le_of_ble_eq_true rfl, Nat.le_of_ble_eq_true rfl⟩ ⟨Nat.zero_le _, Nat.zero_le _⟩ hl.1 (Nat.le_of_ble_eq_true rfl) dX6_qPartTold_147 (fun τ12 H locs hT hI => ?_)
      refine lv_goto (tgt := 183) hx hb dX6_qPartTold_150 (by decide) ?_
      refine lv_goto (tgt := 2) hx hb dX6_qPartTold_183 (by decide) ?_
      exact hk2 x1 τ12 _ _ _ hT hI (lv_sub hl [1, 2] rfl)
    · have hT := hT.2 hc
      refine lv_aload_n hx hb dX6_qPartTold_126 rfl (lv_at hl 1 rfl) ?_
      refine lv_iload hx hb dX6_qPartTold_127 (lv_at hl 3 rfl) ?_
      refine lv_if_eq (tgt := 137) hx hb dX6_qPartTold_129 (by decide) (fun hc => ?_) (fun hc => ?_)
      · have hT := hT.1 hc
        refine lv_bipush (v := 22) hx hb dX6_qPartTold_137 (by decide) ?_
        exact w_139 (k2) (hk2) x1 s0 22 τ _ _ _ hT hI (lv_sub hl [1, 2, 0] rfl)
      · have hT := hT.2 hc
        refine lv_bipush (v := 21) hx hb dX6_qPartTold_132 (by decide) ?_
        refine lv_goto (tgt := 139) hx hb dX6_qPartTold_134 (by decide) ?_
        exact w_139 (k2) (hk2) x1 s0 21 τ _ _ _ hT hI (lv_sub hl [1, 2, 0] rfl)
  have w_101 : ∀ (k2 : Int32 → Sto → Prop), (∀ (x1 : Int32) (τ : Sto) (H : Heap) (locs : List Loc) (ls : Array Slot), k2 x1 τ → tI D dA ad sz s.heap τ H locs → lv_has ls 6 [(0, .ref (ad 0)), (1, .int x1)] → W p l e ({ frames := 6, cells := 0, slots := 0, locals := 118 }) s m args below meth c H locs 0 0 Q (F0 m 2 ls [])) → ∀ (x1 : Int32) (x4 : Int32) (τ : Sto) (H : Heap) (locs : List Loc) (ls : Array Slot), T_qPartTold_101 K k2 x1 x4 τ → tI D dA ad sz s.heap τ H locs → lv_has ls 6 [(0, .ref (ad 0)), (1, .int x1), (4, .int x4)] → W p l e ({ frames := 6, cells := 0, slots := 0, locals := 118 }) s m args below meth c H locs 0 0 Q (F0 m 101 ls []) := by
    intro k2 hk2 x1 x4 τ H locs ls hT hI hl
    unfold T_qPartTold_101 at hT
    refine lv_aload_n hx hb dX6_qPartTold_101 rfl (lv_at hl 0 rfl) ?_
    refine tc_look hC hI hT ⟨Nat.le_of_ble_eq_true rfl, Nat.le_of_ble_eq_true rfl⟩ ⟨Nat.zero_le _, Nat.zero_le _⟩ hl.1 (Nat.le_of_ble_eq_true rfl) dX6_qPartTold_102 (fun r14 τ13 H locs hT hI => ?_)
    refine lv_bipush (v := 40) hx hb dX6_qPartTold_105 (by decide) ?_
    refine lv_icmp_ne (tgt := 117) hx hb dX6_qPartTold_107 (by decide) (fun hc => ?_) (fun hc => ?_)
    · have hT := hT.1 hc
      refine lv_iconst (v := -1) hx hb dX6_qPartTold_117 (by decide) ?_
      exact w_118 (k2) (hk2) x1 x4 (-1) τ13 _ _ _ hT hI (lv_sub hl [0, 1, 2] rfl)
    · have hT := hT.2 hc
      refine lv_aload_n hx hb dX6_qPartTold_110 rfl (lv_at hl 0 rfl) ?_
      refine tg_2 hC hI dX6_qPartTold_111 ?_
      refine lv_goto (tgt := 118) hx hb dX6_qPartTold_114 (by decide) ?_
      exact w_118 (k2) (hk2) x1 x4 (τ13.1 0 2) τ13 _ _ _ hT hI (lv_sub hl [0, 1, 2] rfl)
  have w_78 : ∀ (k2 : Int32 → Sto → Prop), (∀ (x1 : Int32) (τ : Sto) (H : Heap) (locs : List Loc) (ls : Array Slot), k2 x1 τ → tI D dA ad sz s.heap τ H locs → lv_has ls 6 [(0, .ref (ad 0)), (1, .int x1)] → W p l e ({ frames := 6, cells := 0, slots := 0, locals := 118 }) s m args below meth c H locs 0 0 Q (F0 m 2 ls [])) → ∀ (x1 : Int32) (τ : Sto) (H : Heap) (locs : List Loc) (ls : Array Slot), T_qPartTold_78 K k2 x1 τ → tI D dA ad sz s.heap τ H locs → lv_has ls 6 [(0, .ref (ad 0)), (1, .int x1)] → W p l e ({ frames := 6, cells := 0, slots := 0, locals := 118 }) s m args below meth c H locs 0 0 Q (F0 m 78 ls []) := by
    intro k2 hk2 x1 τ H locs ls hT hI hl
    unfold T_qPartTold_78 at hT
    refine lv_aload_n hx hb dX6_qPartTold_78 rfl (lv_at hl 0 rfl) ?_
    refine lv_aload_n hx hb dX6_qPartTold_79 rfl (lv_at hl 0 rfl) ?_
    refine tg_78 hC hI dX6_qPartTold_80 ?_
    refine tc_eats hC hI hT ⟨Nat.le_of_ble_eq_true rfl, Nat.le_of_ble_eq_true rfl⟩ ⟨Nat.zero_le _, Nat.zero_le _⟩ hl.1 (Nat.le_of_ble_eq_true rfl) dX6_qPartTold_83 (fun r16 τ15 H locs hT hI => ?_)
    refine lv_istore (lv' := [(4, .int r16), (0, .ref (ad 0)), (1, .int x1)]) hx hb dX6_qPartTold_86 hl (Nat.le_of_ble_eq_true rfl) rfl (fun ls hl => ?_)
    refine lv_iload hx hb dX6_qPartTold_88 (lv_at hl 0 rfl) ?_
    refine lv_if_ne (tgt := 101) hx hb dX6_qPartTold_90 (by decide) (fun hc => ?_) (fun hc => ?_)
    · have hT := hT.1 hc
      exact w_101 (k2) (hk2) x1 r16 τ15 _ _ _ hT hI (lv_sub hl [1, 2, 0] rfl)
    · have hT := hT.2 hc
      refine lv_aload_n hx hb dX6_qPartTold_93 rfl (lv_at hl 1 rfl) ?_
      refine lv_aload_n hx hb dX6_qPartTold_94 rfl (lv_at hl 1 rfl) ?_
      refine tg_79 hC hI dX6_qPartTold_95 ?_
      refine tc_asks hC hI hT ⟨Nat.le_of_ble_eq_true rfl, Nat.le_of_ble_eq_true rfl⟩ ⟨Nat.zero_le _, Nat.zero_le _⟩ hl.1 (Nat.le_of_ble_eq_true rfl) dX6_qPartTold_98 (fun τ17 H locs hT hI => ?_)
      exact w_101 (k2) (hk2) x1 r16 τ17 _ _ _ hT hI (lv_sub hl [1, 2, 0] rfl)
  have w_2 : ∀ (n : Nat) (x1 : Int32) (τ : Sto) (H : Heap) (locs : List Loc) (ls : Array Slot), T_qPartTold_2 K n x1 τ → tI D dA ad sz s.heap τ H locs → lv_has ls 6 [(0, .ref (ad 0)), (1, .int x1)] → W p l e ({ frames := 6, cells := 0, slots := 0, locals := 118 }) s m args below meth c H locs 0 0 Q (F0 m 2 ls []) := by
    intro n
    induction n with
    | zero => intro x1 τ H locs ls hT; exact hT.elim
    | succ n ih =>
      intro x1 τ H locs ls hT hI hl
      unfold T_qPartTold_2 at hT
      refine lv_iload_n hx hb dX6_qPartTold_2 rfl (lv_at hl 1 rfl) ?_
      refine lv_if_eq (tgt := 186) hx hb dX6_qPartTold_3 (by decide) (fun hc => ?_) (fun hc => ?_)
      · have hT := hT.1 hc
        exact w_186 τ _ _ _ hT hI (lv_sub hl [0] rfl)
      · have hT := hT.2 hc
        refine lv_aload_n hx hb dX6_qPartTold_6 rfl (lv_at hl 0 rfl) ?_
        refine tg_5 hC hI dX6_qPartTold_7 ?_
        refine lv_if_ne (tgt := 186) hx hb dX6_qPartTold_10 (by decide) (fun hc => ?_) (fun hc => ?_)
        · have hT := hT.1 hc
          exact w_186 τ _ _ _ hT hI (lv_sub hl [0] rfl)
        · have hT := hT.2 hc
          refine lv_aload_n hx hb dX6_qPartTold_13 rfl (lv_at hl 0 rfl) ?_
          refine tc_look hC hI hT ⟨Nat.le_of_ble_eq_true rfl, Nat.le_of_ble_eq_true rfl⟩ ⟨Nat.zero_le _, Nat.zero_le _⟩ hl.1 (Nat.le_of_ble_eq_true rfl) dX6_qPartTold_14 (fun r19 τ18 H locs hT hI => ?_)
          refine lv_istore_n (lv' := [(2, .int r19), (0, .ref (ad 0)), (1, .int x1)]) hx hb dX6_qPartTold_17 rfl hl (Nat.le_of_ble_eq_true rfl) rfl (fun ls hl => ?_)
          refine lv_aload_n hx hb dX6_qPartTold_18 rfl (lv_at hl 1 rfl) ?_
          refine lv_bipush (v := 10) hx hb dX6_qPartTold_19 (by decide) ?_
          refine lv_bipush (v := 11) hx hb dX6_qPartTold_21 (by decide) ?_
          refine tc_qWordOf hC hI hT ⟨Nat.le_of_ble_eq_true rfl, Nat.le_of_ble_eq_true rfl⟩ ⟨Nat.zero_le _, Nat.zero_le _⟩ hl.1 (Nat.le_of_ble_eq_true rfl) dX6_qPartTold_23 (fun r21 τ20 H locs hT hI => ?_)
          refine lv_istore_n (lv' := [(3, .int r21), (2, .int r19), (0, .ref (ad 0)), (1, .int x1)]) hx hb dX6_qPartTold_26 rfl hl (Nat.le_of_ble_eq_true rfl) rfl (fun ls hl => ?_)
          refine lv_iload_n hx hb dX6_qPartTold_27 rfl (lv_at hl 1 rfl) ?_
          refine lv_bipush (v := 40) hx hb dX6_qPartTold_28 (by decide) ?_
          refine lv_icmp_ne (tgt := 56) hx hb dX6_qPartTold_30 (by decide) (fun hc => ?_) (fun hc => ?_)
          · have hT := hT.1 hc
            refine lv_aload_n hx hb dX6_qPartTold_56 rfl (lv_at hl 2 rfl) ?_
            refine lv_aload_n hx hb dX6_qPartTold_57 rfl (lv_at hl 2 rfl) ?_
            refine tg_78 hC hI dX6_qPartTold_58 ?_
            refine tc_isHere hC hI hT ⟨Nat.le_of_ble_eq_true rfl, Nat.le_of_ble_eq_true rfl⟩ ⟨Nat.zero_le _, Nat.zero_le _⟩ hl.1 (Nat.le_of_ble_eq_true rfl) dX6_qPartTold_61 (fun r23 τ22 H locs hT hI => ?_)
            refine lv_if_ne (tgt := 78) hx hb dX6_qPartTold_64 (by decide) (fun hc => ?_) (fun hc => ?_)
            · have hT := hT.1 hc
              exact w_78 (T_qPartTold_2 K n) (ih) x1 τ22 _ _ _ hT hI (lv_sub hl [2, 3] rfl)
            · have hT := hT.2 hc
              refine lv_aload_n hx hb dX6_qPartTold_67 rfl (lv_at hl 2 rfl) ?_
              refine lv_aload_n hx hb dX6_qPartTold_68 rfl (lv_at hl 2 rfl) ?_
              refine tg_79 hC hI dX6_qPartTold_69 ?_
              refine tc_isHere hC hI hT ⟨Nat.le_of_ble_eq_true rfl, Nat.le_of_ble_eq_true rfl⟩ ⟨Nat.zero_le _, Nat.zero_le _⟩ hl.1 (Nat.le_of_ble_eq_true rfl) dX6_qPartTold_72 (fun r25 τ24 H locs hT hI => ?_)
              refine lv_if_eq (tgt := 153) hx hb dX6_qPartTold_75 (by decide) (fun hc => ?_) (fun hc => ?_)
              · have hT := hT.1 hc
                refine lv_iload_n hx hb dX6_qPartTold_153 rfl (lv_at hl 0 rfl) ?_
                refine lv_iconst (v := -1) hx hb dX6_qPartTold_154 (by decide) ?_
                refine lv_icmp_eq (tgt := 181) hx hb dX6_qPartTold_155 (by decide) (fun hc => ?_) (fun hc => ?_)
                · have hT := hT.1 hc
                  refine lv_iconst (v := 0) hx hb dX6_qPartTold_181 (by decide) ?_
                  refine lv_istore_n (lv' := [(1, .int 0), (3, .int r21), (2, .int r19), (0, .ref (ad 0))]) hx hb dX6_qPartTold_182 rfl hl (Nat.le_of_ble_eq_true rfl) rfl (fun ls hl => ?_)
                  refine lv_goto (tgt := 2) hx hb dX6_qPartTold_183 (by decide) ?_
                  exact ih 0 τ24 _ _ _ hT hI (lv_sub hl [3, 0] rfl)
                · have hT := hT.2 hc
                  refine lv_aload_n hx hb dX6_qPartTold_158 rfl (lv_at hl 2 rfl) ?_
                  refine lv_bipush (v := 60) hx hb dX6_qPartTold_159 (by decide) ?_
                  refine lv_iload_n hx hb dX6_qPartTold_161 rfl (lv_at hl 0 rfl) ?_
                  refine lv_iadd hx hb dX6_qPartTold_162 ?_
                  refine lv_bipush (v := 10) hx hb dX6_qPartTold_163 (by decide) ?_
                  refine lv_isub hx hb dX6_qPartTold_165 ?_
                  refine lv_aload_n hx hb dX6_qPartTold_166 rfl (lv_at hl 2 rfl) ?_
                  refine tg_2 hC hI dX6_qPartTold_167 ?_
                  refine tc_qOpens hC hI hT ⟨Nat.le_of_ble_eq_true rfl, Nat.le_of_ble_eq_true rfl⟩ ⟨Nat.zero_le _, Nat.zero_le _⟩ hl.1 (Nat.le_of_ble_eq_true rfl) dX6_qPartTold_170 (fun τ26 H locs hT hI => ?_)
                  refine lv_aload_n hx hb dX6_qPartTold_173 rfl (lv_at hl 2 rfl) ?_
                  refine lv_iload_n hx hb dX6_qPartTold_174 rfl (lv_at hl 0 rfl) ?_
                  refine tc_qAsksWord hC hI hT ⟨Nat.le_of_ble_eq_true rfl, Nat.le_of_ble_eq_true rfl⟩ ⟨Nat.zero_le _, Nat.zero_le _⟩ hl.1 (Nat.le_of_ble_eq_true rfl) dX6_qPartTold_175 (fun τ27 H locs hT hI => ?_)
                  refine lv_goto (tgt := 183) hx hb dX6_qPartTold_178 (by decide) ?_
                  refine lv_goto (tgt := 2) hx hb dX6_qPartTold_183 (by decide) ?_
                  exact ih x1 τ27 _ _ _ hT hI (lv_sub hl [2, 3] rfl)
              · have hT := hT.2 hc
                exact w_78 (T_qPartTold_2 K n) (ih) x1 τ24 _ _ _ hT hI (lv_sub hl [2, 3] rfl)
          · have hT := hT.2 hc
            refine lv_aload_n hx hb dX6_qPartTold_33 rfl (lv_at hl 2 rfl) ?_
            refine lv_bipush (v := 20) hx hb dX6_qPartTold_34 (by decide) ?_
            refine lv_aload_n hx hb dX6_qPartTold_36 rfl (lv_at hl 2 rfl) ?_
            refine tg_2 hC hI dX6_qPartTold_37 ?_
            refine tc_qOpens hC hI hT ⟨Nat.le_of_ble_eq_true rfl, Nat.le_of_ble_eq_true rfl⟩ ⟨Nat.zero_le _, Nat.zero_le _⟩ hl.1 (Nat.le_of_ble_eq_true rfl) dX6_qPartTold_40 (fun τ28 H locs hT hI => ?_)
            refine lv_aload_n hx hb dX6_qPartTold_43 rfl (lv_at hl 2 rfl) ?_
            refine lv_dup hx hb dX6_qPartTold_44 rfl ?_
            refine tg_2 hC hI dX6_qPartTold_45 ?_
            refine lv_iconst (v := 1) hx hb dX6_qPartTold_48 (by decide) ?_
            refine lv_iadd hx hb dX6_qPartTold_49 ?_
            refine tp_2 hC hI hT dX6_qPartTold_50 (fun τ29 H locs hT hI => ?_)
            refine lv_goto (tgt := 183) hx hb dX6_qPartTold_53 (by decide) ?_
            refine lv_goto (tgt := 2) hx hb dX6_qPartTold_183 (by decide) ?_
            exact ih x1 τ29 _ _ _ hT hI (lv_sub hl [2, 3] rfl)
  unfold T_qPartTold at hT
  refine lv_iconst (v := 1) hx hb dX6_qPartTold_0 (by decide) ?_
  refine lv_istore_n (lv' := [(1, .int 1), (0, .ref (ad 0))]) hx hb dX6_qPartTold_1 rfl hl (Nat.le_of_ble_eq_true rfl) rfl (fun ls hl => ?_)
  obtain ⟨n2, hT⟩ := hT
  exact w_2 n2 1 τ _ _ _ hT hI (lv_sub hl [1, 0] rfl)
theorem tc_qPartTold {p : Program} {l : Launch} {e : Env} {R : Room} {s : State} {m : MethodId} {args : Array Value} {below : List Frame} {meth : Method} {c : Code} {H : Heap} {locs : List Loc} {cells slots : Nat} {Q : State → Prop} {cc : ByteArray} {nL : Nat} {D : va_G} {dA : Nat → ClassId} {ad : Nat → Nat} {τ : Sto} {pc sz : Nat} {ls : Array Slot} {rest : List Value} {H0 : Heap} {K : Sto → Prop} (hC : tC p m c cc nL s args D dA ad) (hI : tI D dA ad sz H0 τ H locs) (hT : T_qPartTold τ K) (hR : 6 + 1 ≤ R.frames ∧ 8 + (6 + 11) + 118 ≤ R.locals) (hf : cells ≤ R.cells ∧ slots ≤ R.slots) (hsz : ls.size = nL) (hroom : (rest.map fun v => v.category).sum ≤ 8) (hdg : decode cc pc = .ok (.invokevirtual 626, 3)) (kk : ∀ (τ1 : Sto) (H1 : Heap) (locs1 : List Loc), K τ1 → tI D dA ad sz H0 τ1 H1 locs1 → W p l e R s m args below meth c H1 locs1 cells slots Q (F0 m (pc + 3) ls (rest))) : W p l e R s m args below meth c H locs cells slots Q (F0 m pc ls (.ref (ad 0) :: rest)) :=
  rg_callv (rg_runV hC.1 hC.2.1 hI.1 hI.2.1 tl_0 rfl (met_qPartTold l D dA ad hC.2.2 sz τ K hT) (lw_V q2120 q2122 qs83 q170 q2123) 0 (by decide +kernel) ⟨rfl, rfl⟩ hR rfl hsz rfl hroom hf hdg) hI.2.2 (fun τ1 H1 l1 hk hz hP hS => kk τ1 H1 l1 hk ⟨hP, hz, hS⟩)
set_option maxHeartbeats 4000000 in
set_option maxRecDepth 100000 in
theorem met_qIsBracket (l : Launch) (D : va_G) (dA : Nat → ClassId) (ad : Nat → Nat) (hJ : rgJ twL ad) (sz : Nat) (τ : Sto) (x0 : Int32) (K : Int32 → Sto → Prop) (hT : T_qIsBracket τ x0 K) : Met l yX6_qIsBracket (ws_ yX6_qIsBracket cX6_qIsBracket 1 (some .boolean)) ({ frames := 1, cells := 0, slots := 0, locals := 12 }) (va_Pc [.int x0] (rgU D vwCl dA twL ad sz τ)) (va_Qi K (rgU D vwCl dA twL ad sz) (rgAd twL ad)) 0 0 (rgAd twL ad) := by
  refine tw_metz hJ (by decide) rfl (Nat.le_of_ble_eq_true rfl) ?_
  intro p e s m args below meth c Q hC hret hI ls hl
  have hx := hC.1.1
  have hb := hC.1.2.1
  have hl : lv_has ls 1 [(0, .int x0)] := hl
  unfold T_qIsBracket at hT
  refine lv_iload_n hx hb dX6_qIsBracket_0 rfl (lv_at hl 0 rfl) ?_
  refine lv_bipush (v := 20) hx hb dX6_qIsBracket_1 (by decide) ?_
  refine lv_icmp_lt (tgt := 16) hx hb dX6_qIsBracket_3 (by decide) (fun hc => ?_) (fun hc => ?_)
  · have hT := hT.1 hc
    refine lv_iconst (v := 0) hx hb dX6_qIsBracket_16 (by decide) ?_
    exact hret _ _ _ _ _ _ (by decide) hT hI dX6_qIsBracket_17
  · have hT := hT.2 hc
    refine lv_iload_n hx hb dX6_qIsBracket_6 rfl (lv_at hl 0 rfl) ?_
    refine lv_bipush (v := 24) hx hb dX6_qIsBracket_7 (by decide) ?_
    refine lv_icmp_gt (tgt := 16) hx hb dX6_qIsBracket_9 (by decide) (fun hc => ?_) (fun hc => ?_)
    · have hT := hT.1 hc
      refine lv_iconst (v := 0) hx hb dX6_qIsBracket_16 (by decide) ?_
      exact hret _ _ _ _ _ _ (by decide) hT hI dX6_qIsBracket_17
    · have hT := hT.2 hc
      refine lv_iconst (v := 1) hx hb dX6_qIsBracket_12 (by decide) ?_
      refine lv_goto (tgt := 17) hx hb dX6_qIsBracket_13 (by decide) ?_
      exact hret _ _ _ _ _ _ (by decide) hT hI dX6_qIsBracket_17
theorem tc_qIsBracket {p : Program} {l : Launch} {e : Env} {R : Room} {s : State} {m : MethodId} {args : Array Value} {below : List Frame} {meth : Method} {c : Code} {H : Heap} {locs : List Loc} {cells slots : Nat} {Q : State → Prop} {cc : ByteArray} {nL : Nat} {D : va_G} {dA : Nat → ClassId} {ad : Nat → Nat} {τ : Sto} {pc sz : Nat} {ls : Array Slot} {rest : List Value} {H0 : Heap} {x0 : Int32} {K : Int32 → Sto → Prop} (hC : tC p m c cc nL s args D dA ad) (hI : tI D dA ad sz H0 τ H locs) (hT : T_qIsBracket τ x0 K) (hR : 1 + 1 ≤ R.frames ∧ 8 + (1 + 11) + 12 ≤ R.locals) (hf : cells ≤ R.cells ∧ slots ≤ R.slots) (hsz : ls.size = nL) (hroom : (rest.map fun v => v.category).sum ≤ 8) (hdg : decode cc pc = .ok (.invokestatic 593, 3)) (kk : ∀ (r : Int32) (τ1 : Sto) (H1 : Heap) (locs1 : List Loc), K r τ1 → tI D dA ad sz H0 τ1 H1 locs1 → W p l e R s m args below meth c H1 locs1 cells slots Q (F0 m (pc + 3) ls (.int r :: rest))) : W p l e R s m args below meth c H locs cells slots Q (F0 m pc ls (.int x0 :: rest)) :=
  rg_calli (rg_runS hC.1 hC.2.1 hI.1 hI.2.1 (met_qIsBracket l D dA ad hC.2.2 sz τ x0 K hT) (lw_S q2164 q2165 q170 q2166) 1 (by decide +kernel) ⟨rfl, rfl⟩ hR rfl hsz rfl hroom hf hdg) hI.2.2 (fun r τ1 H1 l1 hk hz hP hS => kk r τ1 H1 l1 hk ⟨hP, hz, hS⟩)
set_option maxHeartbeats 4000000 in
set_option maxRecDepth 100000 in
theorem met_qBracket (l : Launch) (D : va_G) (dA : Nat → ClassId) (ad : Nat → Nat) (hJ : rgJ twL ad) (sz : Nat) (τ : Sto) (K : Int32 → Sto → Prop) (hT : T_qBracket τ K) : Met l yX6_qBracket (ws_ yX6_qBracket cX6_qBracket 2 (some .int)) ({ frames := 2, cells := 0, slots := 0, locals := 32 }) (va_Pc [.ref (ad 0)] (rgU D vwCl dA twL ad sz τ)) (va_Qi K (rgU D vwCl dA twL ad sz) (rgAd twL ad)) 0 0 (rgAd twL ad) := by
  refine tw_meti hJ (by decide) rfl (Nat.le_of_ble_eq_true rfl) ?_
  intro p e s m args below meth c Q hC hret hI ls hl
  have hx := hC.1.1
  have hb := hC.1.2.1
  have hl : lv_has ls 2 [(0, .ref (ad 0))] := hl
  have w_33 : ∀ (x1 : Int32) (τ : Sto) (H : Heap) (locs : List Loc) (ls : Array Slot), T_qBracket_33 K x1 τ → tI D dA ad sz s.heap τ H locs → lv_has ls 2 [(0, .ref (ad 0)), (1, .int x1)] → W p l e ({ frames := 2, cells := 0, slots := 0, locals := 32 }) s m args below meth c H locs 0 0 Q (F0 m 33 ls []) := by
    intro x1 τ H locs ls hT hI hl
    unfold T_qBracket_33 at hT
    refine lv_iload_n hx hb dX6_qBracket_33 rfl (lv_at hl 1 rfl) ?_
    refine lv_aload_n hx hb dX6_qBracket_34 rfl (lv_at hl 0 rfl) ?_
    refine tg_96 hC hI dX6_qBracket_35 ?_
    refine lv_icmp_lt (tgt := 50) hx hb dX6_qBracket_38 (by decide) (fun hc => ?_) (fun hc => ?_)
    · have hT := hT.1 hc
      refine lv_iconst (v := -1) hx hb dX6_qBracket_50 (by decide) ?_
      exact hret _ _ _ _ _ _ hT hI dX6_qBracket_51
    · have hT := hT.2 hc
      refine lv_aload_n hx hb dX6_qBracket_41 rfl (lv_at hl 0 rfl) ?_
      refine tg_93 hC hI dX6_qBracket_42 ?_
      refine lv_iload_n hx hb dX6_qBracket_45 rfl (lv_at hl 1 rfl) ?_
      refine tw_iald hC hI tl_94 hT dX6_qBracket_46 (fun hT => ?_)
      refine lv_goto (tgt := 51) hx hb dX6_qBracket_47 (by decide) ?_
      exact hret _ _ _ _ _ _ hT hI dX6_qBracket_51
  have w_7 : ∀ (n : Nat) (x1 : Int32) (τ : Sto) (H : Heap) (locs : List Loc) (ls : Array Slot), T_qBracket_7 K n x1 τ → tI D dA ad sz s.heap τ H locs → lv_has ls 2 [(0, .ref (ad 0)), (1, .int x1)] → W p l e ({ frames := 2, cells := 0, slots := 0, locals := 32 }) s m args below meth c H locs 0 0 Q (F0 m 7 ls []) := by
    intro n
    induction n with
    | zero => intro x1 τ H locs ls hT; exact hT.elim
    | succ n ih =>
      intro x1 τ H locs ls hT hI hl
      unfold T_qBracket_7 at hT
      refine lv_iload_n hx hb dX6_qBracket_7 rfl (lv_at hl 1 rfl) ?_
      refine lv_aload_n hx hb dX6_qBracket_8 rfl (lv_at hl 0 rfl) ?_
      refine tg_96 hC hI dX6_qBracket_9 ?_
      refine lv_icmp_lt (tgt := 33) hx hb dX6_qBracket_12 (by decide) (fun hc => ?_) (fun hc => ?_)
      · have hT := hT.1 hc
        exact w_33 x1 τ _ _ _ hT hI (lv_sub hl [0, 1] rfl)
      · have hT := hT.2 hc
        refine lv_aload_n hx hb dX6_qBracket_15 rfl (lv_at hl 0 rfl) ?_
        refine tg_93 hC hI dX6_qBracket_16 ?_
        refine lv_iload_n hx hb dX6_qBracket_19 rfl (lv_at hl 1 rfl) ?_
        refine tw_iald hC hI tl_94 hT dX6_qBracket_20 (fun hT => ?_)
        refine tc_qIsBracket hC hI hT ⟨Nat.le_of_ble_eq_true rfl, Nat.le_of_ble_eq_true rfl⟩ ⟨Nat.zero_le _, Nat.zero_le _⟩ hl.1 (Nat.le_of_ble_eq_true rfl) dX6_qBracket_21 (fun r2 τ1 H locs hT hI => ?_)
        refine lv_if_ne (tgt := 33) hx hb dX6_qBracket_24 (by decide) (fun hc => ?_) (fun hc => ?_)
        · have hT := hT.1 hc
          exact w_33 x1 τ1 _ _ _ hT hI (lv_sub hl [0, 1] rfl)
        · have hT := hT.2 hc
          refine lv_iinc (v := x1 + (-1)) (lv' := [(1, .int (x1 + (-1))), (0, .ref (ad 0))]) hx hb dX6_qBracket_27 hl (k := 1) rfl rfl (Nat.le_of_ble_eq_true rfl) rfl (fun ls hl => ?_)
          refine lv_goto (tgt := 7) hx hb dX6_qBracket_30 (by decide) ?_
          exact ih (x1 + (-1)) τ1 _ _ _ hT hI (lv_sub hl [1, 0] rfl)
  unfold T_qBracket at hT
  refine lv_aload_n hx hb dX6_qBracket_0 rfl (lv_at hl 0 rfl) ?_
  refine tg_94 hC hI dX6_qBracket_1 ?_
  refine lv_iconst (v := 1) hx hb dX6_qBracket_4 (by decide) ?_
  refine lv_isub hx hb dX6_qBracket_5 ?_
  refine lv_istore_n (lv' := [(1, .int ((τ.1 0 94) - 1)), (0, .ref (ad 0))]) hx hb dX6_qBracket_6 rfl hl (Nat.le_of_ble_eq_true rfl) rfl (fun ls hl => ?_)
  obtain ⟨n7, hT⟩ := hT
  exact w_7 n7 ((τ.1 0 94) - 1) τ _ _ _ hT hI (lv_sub hl [1, 0] rfl)
theorem tc_qBracket {p : Program} {l : Launch} {e : Env} {R : Room} {s : State} {m : MethodId} {args : Array Value} {below : List Frame} {meth : Method} {c : Code} {H : Heap} {locs : List Loc} {cells slots : Nat} {Q : State → Prop} {cc : ByteArray} {nL : Nat} {D : va_G} {dA : Nat → ClassId} {ad : Nat → Nat} {τ : Sto} {pc sz : Nat} {ls : Array Slot} {rest : List Value} {H0 : Heap} {K : Int32 → Sto → Prop} (hC : tC p m c cc nL s args D dA ad) (hI : tI D dA ad sz H0 τ H locs) (hT : T_qBracket τ K) (hR : 2 + 1 ≤ R.frames ∧ 8 + (2 + 11) + 32 ≤ R.locals) (hf : cells ≤ R.cells ∧ slots ≤ R.slots) (hsz : ls.size = nL) (hroom : (rest.map fun v => v.category).sum ≤ 8) (hdg : decode cc pc = .ok (.invokevirtual 617, 3)) (kk : ∀ (r : Int32) (τ1 : Sto) (H1 : Heap) (locs1 : List Loc), K r τ1 → tI D dA ad sz H0 τ1 H1 locs1 → W p l e R s m args below meth c H1 locs1 cells slots Q (F0 m (pc + 3) ls (.int r :: rest))) : W p l e R s m args below meth c H locs cells slots Q (F0 m pc ls (.ref (ad 0) :: rest)) :=
  rg_calli (rg_runV hC.1 hC.2.1 hI.1 hI.2.1 tl_0 rfl (met_qBracket l D dA ad hC.2.2 sz τ K hT) (lw_V q2160 q2162 qs93 q170 q2163) 0 (by decide +kernel) ⟨rfl, rfl⟩ hR rfl hsz rfl hroom hf hdg) hI.2.2 (fun r τ1 H1 l1 hk hz hP hS => kk r τ1 H1 l1 hk ⟨hP, hz, hS⟩)
set_option maxHeartbeats 4000000 in
set_option maxRecDepth 100000 in
theorem met_qDropsToBracket (l : Launch) (D : va_G) (dA : Nat → ClassId) (ad : Nat → Nat) (hJ : rgJ twL ad) (sz : Nat) (τ : Sto) (K : Sto → Prop) (hT : T_qDropsToBracket τ K) : Met l yX6_qDropsToBracket (ws_ yX6_qDropsToBracket cX6_qDropsToBracket 1 (none)) ({ frames := 3, cells := 0, slots := 0, locals := 53 }) (va_Pc [.ref (ad 0)] (rgU D vwCl dA twL ad sz τ)) (va_Qv K (rgU D vwCl dA twL ad sz) (rgAd twL ad)) 0 0 (rgAd twL ad) := by
  refine tw_metv hJ (by decide) rfl (Nat.le_of_ble_eq_true rfl) ?_
  intro p e s m args below meth c Q hC hret hI ls hl
  have hx := hC.1.1
  have hb := hC.1.2.1
  have hl : lv_has ls 1 [(0, .ref (ad 0))] := hl
  have w_0 : ∀ (n : Nat) (τ : Sto) (H : Heap) (locs : List Loc) (ls : Array Slot), T_qDropsToBracket_0 K n τ → tI D dA ad sz s.heap τ H locs → lv_has ls 1 [(0, .ref (ad 0))] → W p l e ({ frames := 3, cells := 0, slots := 0, locals := 53 }) s m args below meth c H locs 0 0 Q (F0 m 0 ls []) := by
    intro n
    induction n with
    | zero => intro τ H locs ls hT; exact hT.elim
    | succ n ih =>
      intro τ H locs ls hT hI hl
      unfold T_qDropsToBracket_0 at hT
      refine lv_aload_n hx hb dX6_qDropsToBracket_0 rfl (lv_at hl 0 rfl) ?_
      refine tg_94 hC hI dX6_qDropsToBracket_1 ?_
      refine lv_aload_n hx hb dX6_qDropsToBracket_4 rfl (lv_at hl 0 rfl) ?_
      refine tg_96 hC hI dX6_qDropsToBracket_5 ?_
      refine lv_icmp_le (tgt := 35) hx hb dX6_qDropsToBracket_8 (by decide) (fun hc => ?_) (fun hc => ?_)
      · have hT := hT.1 hc
        exact hret _ _ _ _ _ hT hI dX6_qDropsToBracket_35
      · have hT := hT.2 hc
        refine lv_aload_n hx hb dX6_qDropsToBracket_11 rfl (lv_at hl 0 rfl) ?_
        refine tg_93 hC hI dX6_qDropsToBracket_12 ?_
        refine lv_aload_n hx hb dX6_qDropsToBracket_15 rfl (lv_at hl 0 rfl) ?_
        refine tg_94 hC hI dX6_qDropsToBracket_16 ?_
        refine lv_iconst (v := 1) hx hb dX6_qDropsToBracket_19 (by decide) ?_
        refine lv_isub hx hb dX6_qDropsToBracket_20 ?_
        refine tw_iald hC hI tl_94 hT dX6_qDropsToBracket_21 (fun hT => ?_)
        refine tc_qIsBracket hC hI hT ⟨Nat.le_of_ble_eq_true rfl, Nat.le_of_ble_eq_true rfl⟩ ⟨Nat.zero_le _, Nat.zero_le _⟩ hl.1 (Nat.le_of_ble_eq_true rfl) dX6_qDropsToBracket_22 (fun r2 τ1 H locs hT hI => ?_)
        refine lv_if_ne (tgt := 35) hx hb dX6_qDropsToBracket_25 (by decide) (fun hc => ?_) (fun hc => ?_)
        · have hT := hT.1 hc
          exact hret _ _ _ _ _ hT hI dX6_qDropsToBracket_35
        · have hT := hT.2 hc
          refine lv_aload_n hx hb dX6_qDropsToBracket_28 rfl (lv_at hl 0 rfl) ?_
          refine tc_qDrops hC hI hT ⟨Nat.le_of_ble_eq_true rfl, Nat.le_of_ble_eq_true rfl⟩ ⟨Nat.zero_le _, Nat.zero_le _⟩ hl.1 (Nat.le_of_ble_eq_true rfl) dX6_qDropsToBracket_29 (fun τ3 H locs hT hI => ?_)
          refine lv_goto (tgt := 0) hx hb dX6_qDropsToBracket_32 (by decide) ?_
          exact ih τ3 _ _ _ hT hI (lv_sub hl [0] rfl)
  unfold T_qDropsToBracket at hT
  obtain ⟨n0, hT⟩ := hT
  exact w_0 n0 τ _ _ _ hT hI (lv_sub hl [0] rfl)
theorem tc_qDropsToBracket {p : Program} {l : Launch} {e : Env} {R : Room} {s : State} {m : MethodId} {args : Array Value} {below : List Frame} {meth : Method} {c : Code} {H : Heap} {locs : List Loc} {cells slots : Nat} {Q : State → Prop} {cc : ByteArray} {nL : Nat} {D : va_G} {dA : Nat → ClassId} {ad : Nat → Nat} {τ : Sto} {pc sz : Nat} {ls : Array Slot} {rest : List Value} {H0 : Heap} {K : Sto → Prop} (hC : tC p m c cc nL s args D dA ad) (hI : tI D dA ad sz H0 τ H locs) (hT : T_qDropsToBracket τ K) (hR : 3 + 1 ≤ R.frames ∧ 8 + (1 + 11) + 53 ≤ R.locals) (hf : cells ≤ R.cells ∧ slots ≤ R.slots) (hsz : ls.size = nL) (hroom : (rest.map fun v => v.category).sum ≤ 8) (hdg : decode cc pc = .ok (.invokevirtual 620, 3)) (kk : ∀ (τ1 : Sto) (H1 : Heap) (locs1 : List Loc), K τ1 → tI D dA ad sz H0 τ1 H1 locs1 → W p l e R s m args below meth c H1 locs1 cells slots Q (F0 m (pc + 3) ls (rest))) : W p l e R s m args below meth c H locs cells slots Q (F0 m pc ls (.ref (ad 0) :: rest)) :=
  rg_callv (rg_runV hC.1 hC.2.1 hI.1 hI.2.1 tl_0 rfl (met_qDropsToBracket l D dA ad hC.2.2 sz τ K hT) (lw_V q2167 q2169 qs94 q170 q2170) 0 (by decide +kernel) ⟨rfl, rfl⟩ hR rfl hsz rfl hroom hf hdg) hI.2.2 (fun τ1 H1 l1 hk hz hP hS => kk τ1 H1 l1 hk ⟨hP, hz, hS⟩)
set_option maxHeartbeats 4000000 in
set_option maxRecDepth 100000 in
theorem met_qIsOn (l : Launch) (D : va_G) (dA : Nat → ClassId) (ad : Nat → Nat) (hJ : rgJ twL ad) (sz : Nat) (τ : Sto) (x1 : Int32) (K : Int32 → Sto → Prop) (hT : T_qIsOn τ x1 K) : Met l yX6_qIsOn (ws_ yX6_qIsOn cX6_qIsOn 2 (some .boolean)) ({ frames := 1, cells := 0, slots := 0, locals := 12 }) (va_Pc [.ref (ad 0), .int x1] (rgU D vwCl dA twL ad sz τ)) (va_Qi K (rgU D vwCl dA twL ad sz) (rgAd twL ad)) 0 0 (rgAd twL ad) := by
  refine tw_metz hJ (by decide) rfl (Nat.le_of_ble_eq_true rfl) ?_
  intro p e s m args below meth c Q hC hret hI ls hl
  have hx := hC.1.1
  have hb := hC.1.2.1
  have hl : lv_has ls 2 [(0, .ref (ad 0)), (1, .int x1)] := hl
  unfold T_qIsOn at hT
  refine lv_aload_n hx hb dX6_qIsOn_0 rfl (lv_at hl 0 rfl) ?_
  refine tg_94 hC hI dX6_qIsOn_1 ?_
  refine lv_if_le (tgt := 26) hx hb dX6_qIsOn_4 (by decide) (fun hc => ?_) (fun hc => ?_)
  · have hT := hT.1 hc
    refine lv_iconst (v := 0) hx hb dX6_qIsOn_26 (by decide) ?_
    exact hret _ _ _ _ _ _ (by decide) hT hI dX6_qIsOn_27
  · have hT := hT.2 hc
    refine lv_aload_n hx hb dX6_qIsOn_7 rfl (lv_at hl 0 rfl) ?_
    refine tg_93 hC hI dX6_qIsOn_8 ?_
    refine lv_aload_n hx hb dX6_qIsOn_11 rfl (lv_at hl 0 rfl) ?_
    refine tg_94 hC hI dX6_qIsOn_12 ?_
    refine lv_iconst (v := 1) hx hb dX6_qIsOn_15 (by decide) ?_
    refine lv_isub hx hb dX6_qIsOn_16 ?_
    refine tw_iald hC hI tl_94 hT dX6_qIsOn_17 (fun hT => ?_)
    refine lv_iload_n hx hb dX6_qIsOn_18 rfl (lv_at hl 1 rfl) ?_
    refine lv_icmp_ne (tgt := 26) hx hb dX6_qIsOn_19 (by decide) (fun hc => ?_) (fun hc => ?_)
    · have hT := hT.1 hc
      refine lv_iconst (v := 0) hx hb dX6_qIsOn_26 (by decide) ?_
      exact hret _ _ _ _ _ _ (by decide) hT hI dX6_qIsOn_27
    · have hT := hT.2 hc
      refine lv_iconst (v := 1) hx hb dX6_qIsOn_22 (by decide) ?_
      refine lv_goto (tgt := 27) hx hb dX6_qIsOn_23 (by decide) ?_
      exact hret _ _ _ _ _ _ (by decide) hT hI dX6_qIsOn_27
theorem tc_qIsOn {p : Program} {l : Launch} {e : Env} {R : Room} {s : State} {m : MethodId} {args : Array Value} {below : List Frame} {meth : Method} {c : Code} {H : Heap} {locs : List Loc} {cells slots : Nat} {Q : State → Prop} {cc : ByteArray} {nL : Nat} {D : va_G} {dA : Nat → ClassId} {ad : Nat → Nat} {τ : Sto} {pc sz : Nat} {ls : Array Slot} {rest : List Value} {H0 : Heap} {x1 : Int32} {K : Int32 → Sto → Prop} (hC : tC p m c cc nL s args D dA ad) (hI : tI D dA ad sz H0 τ H locs) (hT : T_qIsOn τ x1 K) (hR : 1 + 1 ≤ R.frames ∧ 8 + (2 + 11) + 12 ≤ R.locals) (hf : cells ≤ R.cells ∧ slots ≤ R.slots) (hsz : ls.size = nL) (hroom : (rest.map fun v => v.category).sum ≤ 8) (hdg : decode cc pc = .ok (.invokevirtual 623, 3)) (kk : ∀ (r : Int32) (τ1 : Sto) (H1 : Heap) (locs1 : List Loc), K r τ1 → tI D dA ad sz H0 τ1 H1 locs1 → W p l e R s m args below meth c H1 locs1 cells slots Q (F0 m (pc + 3) ls (.int r :: rest))) : W p l e R s m args below meth c H locs cells slots Q (F0 m pc ls (.int x1 :: .ref (ad 0) :: rest)) :=
  rg_calli (rg_runV hC.1 hC.2.1 hI.1 hI.2.1 tl_0 rfl (met_qIsOn l D dA ad hC.2.2 sz τ x1 K hT) (lw_V q2171 q2173 qs95 q170 q2174) 1 (by decide +kernel) ⟨rfl, rfl⟩ hR rfl hsz rfl hroom hf hdg) hI.2.2 (fun r τ1 H1 l1 hk hz hP hS => kk r τ1 H1 l1 hk ⟨hP, hz, hS⟩)
set_option maxHeartbeats 4000000 in
set_option maxRecDepth 100000 in
theorem met_qGoesOn (l : Launch) (D : va_G) (dA : Nat → ClassId) (ad : Nat → Nat) (hJ : rgJ twL ad) (sz : Nat) (τ : Sto) (K : Int32 → Sto → Prop) (hT : T_qGoesOn τ K) : Met l yX6_qGoesOn (ws_ yX6_qGoesOn cX6_qGoesOn 2 (some .boolean)) ({ frames := 4, cells := 0, slots := 0, locals := 74 }) (va_Pc [.ref (ad 0)] (rgU D vwCl dA twL ad sz τ)) (va_Qi K (rgU D vwCl dA twL ad sz) (rgAd twL ad)) 0 0 (rgAd twL ad) := by
  refine tw_metz hJ (by decide) rfl (Nat.le_of_ble_eq_true rfl) ?_
  intro p e s m args below meth c Q hC hret hI ls hl
  have hx := hC.1.1
  have hb := hC.1.2.1
  have hl : lv_has ls 2 [(0, .ref (ad 0))] := hl
  have w_326 : ∀ (τ : Sto) (H : Heap) (locs : List Loc) (ls : Array Slot), T_qGoesOn_326 K τ → tI D dA ad sz s.heap τ H locs → lv_has ls 2 [(0, .ref (ad 0))] → W p l e ({ frames := 4, cells := 0, slots := 0, locals := 74 }) s m args below meth c H locs 0 0 Q (F0 m 326 ls []) := by
    intro τ H locs ls hT hI hl
    unfold T_qGoesOn_326 at hT
    refine lv_aload_n hx hb dX6_qGoesOn_326 rfl (lv_at hl 0 rfl) ?_
    refine lv_bipush (v := 44) hx hb dX6_qGoesOn_327 (by decide) ?_
    refine tc_asksSign hC hI hT ⟨Nat.le_of_ble_eq_true rfl, Nat.le_of_ble_eq_true rfl⟩ ⟨Nat.zero_le _, Nat.zero_le _⟩ hl.1 (Nat.le_of_ble_eq_true rfl) dX6_qGoesOn_329 (fun τ1 H locs hT hI => ?_)
    refine lv_aload_n hx hb dX6_qGoesOn_332 rfl (lv_at hl 0 rfl) ?_
    refine tg_5 hC hI dX6_qGoesOn_333 ?_
    refine lv_if_eq (tgt := 341) hx hb dX6_qGoesOn_336 (by decide) (fun hc => ?_) (fun hc => ?_)
    · have hT := hT.1 hc
      refine lv_aload_n hx hb dX6_qGoesOn_341 rfl (lv_at hl 0 rfl) ?_
      refine tc_qDropsToBracket hC hI hT ⟨Nat.le_of_ble_eq_true rfl, Nat.le_of_ble_eq_true rfl⟩ ⟨Nat.zero_le _, Nat.zero_le _⟩ hl.1 (Nat.le_of_ble_eq_true rfl) dX6_qGoesOn_342 (fun τ2 H locs hT hI => ?_)
      refine lv_aload_n hx hb dX6_qGoesOn_345 rfl (lv_at hl 0 rfl) ?_
      refine tg_93 hC hI dX6_qGoesOn_346 ?_
      refine lv_aload_n hx hb dX6_qGoesOn_349 rfl (lv_at hl 0 rfl) ?_
      refine tg_94 hC hI dX6_qGoesOn_350 ?_
      refine lv_iconst (v := 1) hx hb dX6_qGoesOn_353 (by decide) ?_
      refine lv_isub hx hb dX6_qGoesOn_354 ?_
      refine lv_dup2_11 hx hb dX6_qGoesOn_355 rfl rfl ?_
      refine tw_iald hC hI tl_94 hT dX6_qGoesOn_356 (fun hT => ?_)
      refine lv_iconst (v := 2) hx hb dX6_qGoesOn_357 (by decide) ?_
      refine lv_iadd hx hb dX6_qGoesOn_358 ?_
      refine tw_iast hC hI tl_94 hT dX6_qGoesOn_359 (fun τ3 H locs hT hI => ?_)
      refine lv_iconst (v := 1) hx hb dX6_qGoesOn_360 (by decide) ?_
      exact hret _ _ _ _ _ _ (by decide) hT hI dX6_qGoesOn_361
    · have hT := hT.2 hc
      refine lv_iconst (v := 0) hx hb dX6_qGoesOn_339 (by decide) ?_
      exact hret _ _ _ _ _ _ (by decide) hT hI dX6_qGoesOn_340
  have w_247 : ∀ (x1 : Int32) (n : Nat) (τ : Sto) (H : Heap) (locs : List Loc) (ls : Array Slot), T_qGoesOn_247 K x1 n τ → tI D dA ad sz s.heap τ H locs → lv_has ls 2 [(0, .ref (ad 0)), (1, .int x1)] → W p l e ({ frames := 4, cells := 0, slots := 0, locals := 74 }) s m args below meth c H locs 0 0 Q (F0 m 247 ls []) := by
    intro x1 n
    induction n with
    | zero => intro τ H locs ls hT; exact hT.elim
    | succ n ih =>
      intro τ H locs ls hT hI hl
      unfold T_qGoesOn_247 at hT
      refine lv_aload_n hx hb dX6_qGoesOn_247 rfl (lv_at hl 0 rfl) ?_
      refine lv_iconst (v := 3) hx hb dX6_qGoesOn_248 (by decide) ?_
      refine tc_qIsOn hC hI hT ⟨Nat.le_of_ble_eq_true rfl, Nat.le_of_ble_eq_true rfl⟩ ⟨Nat.zero_le _, Nat.zero_le _⟩ hl.1 (Nat.le_of_ble_eq_true rfl) dX6_qGoesOn_249 (fun r5 τ4 H locs hT hI => ?_)
      refine lv_if_ne (tgt := 279) hx hb dX6_qGoesOn_252 (by decide) (fun hc => ?_) (fun hc => ?_)
      · have hT := hT.1 hc
        refine lv_aload_n hx hb dX6_qGoesOn_279 rfl (lv_at hl 0 rfl) ?_
        refine tc_qDrops hC hI hT ⟨Nat.le_of_ble_eq_true rfl, Nat.le_of_ble_eq_true rfl⟩ ⟨Nat.zero_le _, Nat.zero_le _⟩ hl.1 (Nat.le_of_ble_eq_true rfl) dX6_qGoesOn_280 (fun τ6 H locs hT hI => ?_)
        refine lv_goto (tgt := 247) hx hb dX6_qGoesOn_283 (by decide) ?_
        exact ih τ6 _ _ _ hT hI (lv_sub hl [0, 1] rfl)
      · have hT := hT.2 hc
        refine lv_aload_n hx hb dX6_qGoesOn_255 rfl (lv_at hl 0 rfl) ?_
        refine lv_iconst (v := 4) hx hb dX6_qGoesOn_256 (by decide) ?_
        refine tc_qIsOn hC hI hT ⟨Nat.le_of_ble_eq_true rfl, Nat.le_of_ble_eq_true rfl⟩ ⟨Nat.zero_le _, Nat.zero_le _⟩ hl.1 (Nat.le_of_ble_eq_true rfl) dX6_qGoesOn_257 (fun r8 τ7 H locs hT hI => ?_)
        refine lv_if_ne (tgt := 279) hx hb dX6_qGoesOn_260 (by decide) (fun hc => ?_) (fun hc => ?_)
        · have hT := hT.1 hc
          refine lv_aload_n hx hb dX6_qGoesOn_279 rfl (lv_at hl 0 rfl) ?_
          refine tc_qDrops hC hI hT ⟨Nat.le_of_ble_eq_true rfl, Nat.le_of_ble_eq_true rfl⟩ ⟨Nat.zero_le _, Nat.zero_le _⟩ hl.1 (Nat.le_of_ble_eq_true rfl) dX6_qGoesOn_280 (fun τ9 H locs hT hI => ?_)
          refine lv_goto (tgt := 247) hx hb dX6_qGoesOn_283 (by decide) ?_
          exact ih τ9 _ _ _ hT hI (lv_sub hl [0, 1] rfl)
        · have hT := hT.2 hc
          refine lv_aload_n hx hb dX6_qGoesOn_263 rfl (lv_at hl 0 rfl) ?_
          refine lv_iconst (v := 1) hx hb dX6_qGoesOn_264 (by decide) ?_
          refine tc_qIsOn hC hI hT ⟨Nat.le_of_ble_eq_true rfl, Nat.le_of_ble_eq_true rfl⟩ ⟨Nat.zero_le _, Nat.zero_le _⟩ hl.1 (Nat.le_of_ble_eq_true rfl) dX6_qGoesOn_265 (fun r11 τ10 H locs hT hI => ?_)
          refine lv_if_ne (tgt := 279) hx hb dX6_qGoesOn_268 (by decide) (fun hc => ?_) (fun hc => ?_)
          · have hT := hT.1 hc
            refine lv_aload_n hx hb dX6_qGoesOn_279 rfl (lv_at hl 0 rfl) ?_
            refine tc_qDrops hC hI hT ⟨Nat.le_of_ble_eq_true rfl, Nat.le_of_ble_eq_true rfl⟩ ⟨Nat.zero_le _, Nat.zero_le _⟩ hl.1 (Nat.le_of_ble_eq_true rfl) dX6_qGoesOn_280 (fun τ12 H locs hT hI => ?_)
            refine lv_goto (tgt := 247) hx hb dX6_qGoesOn_283 (by decide) ?_
            exact ih τ12 _ _ _ hT hI (lv_sub hl [0, 1] rfl)
          · have hT := hT.2 hc
            refine lv_aload_n hx hb dX6_qGoesOn_271 rfl (lv_at hl 0 rfl) ?_
            refine lv_iconst (v := 2) hx hb dX6_qGoesOn_272 (by decide) ?_
            refine tc_qIsOn hC hI hT ⟨Nat.le_of_ble_eq_true rfl, Nat.le_of_ble_eq_true rfl⟩ ⟨Nat.zero_le _, Nat.zero_le _⟩ hl.1 (Nat.le_of_ble_eq_true rfl) dX6_qGoesOn_273 (fun r14 τ13 H locs hT hI => ?_)
            refine lv_if_eq (tgt := 286) hx hb dX6_qGoesOn_276 (by decide) (fun hc => ?_) (fun hc => ?_)
            · have hT := hT.1 hc
              refine lv_aload_n hx hb dX6_qGoesOn_286 rfl (lv_at hl 0 rfl) ?_
              refine tg_93 hC hI dX6_qGoesOn_287 ?_
              refine lv_aload_n hx hb dX6_qGoesOn_290 rfl (lv_at hl 0 rfl) ?_
              refine tg_94 hC hI dX6_qGoesOn_291 ?_
              refine lv_iload_n hx hb dX6_qGoesOn_294 rfl (lv_at hl 1 rfl) ?_
              refine tw_iast hC hI tl_94 hT dX6_qGoesOn_295 (fun τ15 H locs hT hI => ?_)
              refine lv_aload_n hx hb dX6_qGoesOn_296 rfl (lv_at hl 0 rfl) ?_
              refine lv_dup hx hb dX6_qGoesOn_297 rfl ?_
              refine tg_94 hC hI dX6_qGoesOn_298 ?_
              refine lv_iconst (v := 1) hx hb dX6_qGoesOn_301 (by decide) ?_
              refine lv_iadd hx hb dX6_qGoesOn_302 ?_
              refine tp_94 hC hI hT dX6_qGoesOn_303 (fun τ16 H locs hT hI => ?_)
              refine lv_iconst (v := 1) hx hb dX6_qGoesOn_306 (by decide) ?_
              exact hret _ _ _ _ _ _ (by decide) hT hI dX6_qGoesOn_307
            · have hT := hT.2 hc
              refine lv_aload_n hx hb dX6_qGoesOn_279 rfl (lv_at hl 0 rfl) ?_
              refine tc_qDrops hC hI hT ⟨Nat.le_of_ble_eq_true rfl, Nat.le_of_ble_eq_true rfl⟩ ⟨Nat.zero_le _, Nat.zero_le _⟩ hl.1 (Nat.le_of_ble_eq_true rfl) dX6_qGoesOn_280 (fun τ17 H locs hT hI => ?_)
              refine lv_goto (tgt := 247) hx hb dX6_qGoesOn_283 (by decide) ?_
              exact ih τ17 _ _ _ hT hI (lv_sub hl [0, 1] rfl)
  have w_225 : ∀ (τ : Sto) (H : Heap) (locs : List Loc) (ls : Array Slot), T_qGoesOn_225 K τ → tI D dA ad sz s.heap τ H locs → lv_has ls 2 [(0, .ref (ad 0))] → W p l e ({ frames := 4, cells := 0, slots := 0, locals := 74 }) s m args below meth c H locs 0 0 Q (F0 m 225 ls []) := by
    intro τ H locs ls hT hI hl
    unfold T_qGoesOn_225 at hT
    refine lv_aload_n hx hb dX6_qGoesOn_225 rfl (lv_at hl 0 rfl) ?_
    refine tg_0 hC hI dX6_qGoesOn_226 ?_
    refine lv_aload_n hx hb dX6_qGoesOn_229 rfl (lv_at hl 0 rfl) ?_
    refine tg_2 hC hI dX6_qGoesOn_230 ?_
    refine lv_iconst (v := 1) hx hb dX6_qGoesOn_233 (by decide) ?_
    refine lv_isub hx hb dX6_qGoesOn_234 ?_
    refine tw_iald hC hI tl_1 hT dX6_qGoesOn_235 (fun hT => ?_)
    refine lv_bipush (v := 43) hx hb dX6_qGoesOn_236 (by decide) ?_
    refine lv_icmp_ne (tgt := 245) hx hb dX6_qGoesOn_238 (by decide) (fun hc => ?_) (fun hc => ?_)
    · have hT := hT.1 hc
      refine lv_iconst (v := 2) hx hb dX6_qGoesOn_245 (by decide) ?_
      refine lv_istore_n (lv' := [(1, .int 2), (0, .ref (ad 0))]) hx hb dX6_qGoesOn_246 rfl hl (Nat.le_of_ble_eq_true rfl) rfl (fun ls hl => ?_)
      obtain ⟨n247, hT⟩ := hT
      exact w_247 2 n247 τ _ _ _ hT hI (lv_sub hl [1, 0] rfl)
    · have hT := hT.2 hc
      refine lv_iconst (v := 1) hx hb dX6_qGoesOn_241 (by decide) ?_
      refine lv_goto (tgt := 246) hx hb dX6_qGoesOn_242 (by decide) ?_
      refine lv_istore_n (lv' := [(1, .int 1), (0, .ref (ad 0))]) hx hb dX6_qGoesOn_246 rfl hl (Nat.le_of_ble_eq_true rfl) rfl (fun ls hl => ?_)
      obtain ⟨n247, hT⟩ := hT
      exact w_247 1 n247 τ _ _ _ hT hI (lv_sub hl [1, 0] rfl)
  have w_162 : ∀ (x1 : Int32) (n : Nat) (τ : Sto) (H : Heap) (locs : List Loc) (ls : Array Slot), T_qGoesOn_162 K x1 n τ → tI D dA ad sz s.heap τ H locs → lv_has ls 2 [(0, .ref (ad 0)), (1, .int x1)] → W p l e ({ frames := 4, cells := 0, slots := 0, locals := 74 }) s m args below meth c H locs 0 0 Q (F0 m 162 ls []) := by
    intro x1 n
    induction n with
    | zero => intro τ H locs ls hT; exact hT.elim
    | succ n ih =>
      intro τ H locs ls hT hI hl
      unfold T_qGoesOn_162 at hT
      refine lv_aload_n hx hb dX6_qGoesOn_162 rfl (lv_at hl 0 rfl) ?_
      refine lv_iconst (v := 3) hx hb dX6_qGoesOn_163 (by decide) ?_
      refine tc_qIsOn hC hI hT ⟨Nat.le_of_ble_eq_true rfl, Nat.le_of_ble_eq_true rfl⟩ ⟨Nat.zero_le _, Nat.zero_le _⟩ hl.1 (Nat.le_of_ble_eq_true rfl) dX6_qGoesOn_164 (fun r19 τ18 H locs hT hI => ?_)
      refine lv_if_ne (tgt := 178) hx hb dX6_qGoesOn_167 (by decide) (fun hc => ?_) (fun hc => ?_)
      · have hT := hT.1 hc
        refine lv_aload_n hx hb dX6_qGoesOn_178 rfl (lv_at hl 0 rfl) ?_
        refine tc_qDrops hC hI hT ⟨Nat.le_of_ble_eq_true rfl, Nat.le_of_ble_eq_true rfl⟩ ⟨Nat.zero_le _, Nat.zero_le _⟩ hl.1 (Nat.le_of_ble_eq_true rfl) dX6_qGoesOn_179 (fun τ20 H locs hT hI => ?_)
        refine lv_goto (tgt := 162) hx hb dX6_qGoesOn_182 (by decide) ?_
        exact ih τ20 _ _ _ hT hI (lv_sub hl [0, 1] rfl)
      · have hT := hT.2 hc
        refine lv_aload_n hx hb dX6_qGoesOn_170 rfl (lv_at hl 0 rfl) ?_
        refine lv_iconst (v := 4) hx hb dX6_qGoesOn_171 (by decide) ?_
        refine tc_qIsOn hC hI hT ⟨Nat.le_of_ble_eq_true rfl, Nat.le_of_ble_eq_true rfl⟩ ⟨Nat.zero_le _, Nat.zero_le _⟩ hl.1 (Nat.le_of_ble_eq_true rfl) dX6_qGoesOn_172 (fun r22 τ21 H locs hT hI => ?_)
        refine lv_if_eq (tgt := 185) hx hb dX6_qGoesOn_175 (by decide) (fun hc => ?_) (fun hc => ?_)
        · have hT := hT.1 hc
          refine lv_aload_n hx hb dX6_qGoesOn_185 rfl (lv_at hl 0 rfl) ?_
          refine tg_93 hC hI dX6_qGoesOn_186 ?_
          refine lv_aload_n hx hb dX6_qGoesOn_189 rfl (lv_at hl 0 rfl) ?_
          refine tg_94 hC hI dX6_qGoesOn_190 ?_
          refine lv_iload_n hx hb dX6_qGoesOn_193 rfl (lv_at hl 1 rfl) ?_
          refine tw_iast hC hI tl_94 hT dX6_qGoesOn_194 (fun τ23 H locs hT hI => ?_)
          refine lv_aload_n hx hb dX6_qGoesOn_195 rfl (lv_at hl 0 rfl) ?_
          refine lv_dup hx hb dX6_qGoesOn_196 rfl ?_
          refine tg_94 hC hI dX6_qGoesOn_197 ?_
          refine lv_iconst (v := 1) hx hb dX6_qGoesOn_200 (by decide) ?_
          refine lv_iadd hx hb dX6_qGoesOn_201 ?_
          refine tp_94 hC hI hT dX6_qGoesOn_202 (fun τ24 H locs hT hI => ?_)
          refine lv_iconst (v := 1) hx hb dX6_qGoesOn_205 (by decide) ?_
          exact hret _ _ _ _ _ _ (by decide) hT hI dX6_qGoesOn_206
        · have hT := hT.2 hc
          refine lv_aload_n hx hb dX6_qGoesOn_178 rfl (lv_at hl 0 rfl) ?_
          refine tc_qDrops hC hI hT ⟨Nat.le_of_ble_eq_true rfl, Nat.le_of_ble_eq_true rfl⟩ ⟨Nat.zero_le _, Nat.zero_le _⟩ hl.1 (Nat.le_of_ble_eq_true rfl) dX6_qGoesOn_179 (fun τ25 H locs hT hI => ?_)
          refine lv_goto (tgt := 162) hx hb dX6_qGoesOn_182 (by decide) ?_
          exact ih τ25 _ _ _ hT hI (lv_sub hl [0, 1] rfl)
  have w_140 : ∀ (τ : Sto) (H : Heap) (locs : List Loc) (ls : Array Slot), T_qGoesOn_140 K τ → tI D dA ad sz s.heap τ H locs → lv_has ls 2 [(0, .ref (ad 0))] → W p l e ({ frames := 4, cells := 0, slots := 0, locals := 74 }) s m args below meth c H locs 0 0 Q (F0 m 140 ls []) := by
    intro τ H locs ls hT hI hl
    unfold T_qGoesOn_140 at hT
    refine lv_aload_n hx hb dX6_qGoesOn_140 rfl (lv_at hl 0 rfl) ?_
    refine tg_0 hC hI dX6_qGoesOn_141 ?_
    refine lv_aload_n hx hb dX6_qGoesOn_144 rfl (lv_at hl 0 rfl) ?_
    refine tg_2 hC hI dX6_qGoesOn_145 ?_
    refine lv_iconst (v := 1) hx hb dX6_qGoesOn_148 (by decide) ?_
    refine lv_isub hx hb dX6_qGoesOn_149 ?_
    refine tw_iald hC hI tl_1 hT dX6_qGoesOn_150 (fun hT => ?_)
    refine lv_bipush (v := 42) hx hb dX6_qGoesOn_151 (by decide) ?_
    refine lv_icmp_ne (tgt := 160) hx hb dX6_qGoesOn_153 (by decide) (fun hc => ?_) (fun hc => ?_)
    · have hT := hT.1 hc
      refine lv_iconst (v := 4) hx hb dX6_qGoesOn_160 (by decide) ?_
      refine lv_istore_n (lv' := [(1, .int 4), (0, .ref (ad 0))]) hx hb dX6_qGoesOn_161 rfl hl (Nat.le_of_ble_eq_true rfl) rfl (fun ls hl => ?_)
      obtain ⟨n162, hT⟩ := hT
      exact w_162 4 n162 τ _ _ _ hT hI (lv_sub hl [1, 0] rfl)
    · have hT := hT.2 hc
      refine lv_iconst (v := 3) hx hb dX6_qGoesOn_156 (by decide) ?_
      refine lv_goto (tgt := 161) hx hb dX6_qGoesOn_157 (by decide) ?_
      refine lv_istore_n (lv' := [(1, .int 3), (0, .ref (ad 0))]) hx hb dX6_qGoesOn_161 rfl hl (Nat.le_of_ble_eq_true rfl) rfl (fun ls hl => ?_)
      obtain ⟨n162, hT⟩ := hT
      exact w_162 3 n162 τ _ _ _ hT hI (lv_sub hl [1, 0] rfl)
  have w_122 : ∀ (τ : Sto) (H : Heap) (locs : List Loc) (ls : Array Slot), T_qGoesOn_122 K τ → tI D dA ad sz s.heap τ H locs → lv_has ls 2 [(0, .ref (ad 0))] → W p l e ({ frames := 4, cells := 0, slots := 0, locals := 74 }) s m args below meth c H locs 0 0 Q (F0 m 122 ls []) := by
    intro τ H locs ls hT hI hl
    unfold T_qGoesOn_122 at hT
    refine lv_aload_n hx hb dX6_qGoesOn_122 rfl (lv_at hl 0 rfl) ?_
    refine lv_bipush (v := 42) hx hb dX6_qGoesOn_123 (by decide) ?_
    refine tc_takesSign hC hI hT ⟨Nat.le_of_ble_eq_true rfl, Nat.le_of_ble_eq_true rfl⟩ ⟨Nat.zero_le _, Nat.zero_le _⟩ hl.1 (Nat.le_of_ble_eq_true rfl) dX6_qGoesOn_125 (fun r27 τ26 H locs hT hI => ?_)
    refine lv_if_ne (tgt := 140) hx hb dX6_qGoesOn_128 (by decide) (fun hc => ?_) (fun hc => ?_)
    · have hT := hT.1 hc
      exact w_140 τ26 _ _ _ hT hI (lv_sub hl [0] rfl)
    · have hT := hT.2 hc
      refine lv_aload_n hx hb dX6_qGoesOn_131 rfl (lv_at hl 0 rfl) ?_
      refine lv_bipush (v := 47) hx hb dX6_qGoesOn_132 (by decide) ?_
      refine tc_takesSign hC hI hT ⟨Nat.le_of_ble_eq_true rfl, Nat.le_of_ble_eq_true rfl⟩ ⟨Nat.zero_le _, Nat.zero_le _⟩ hl.1 (Nat.le_of_ble_eq_true rfl) dX6_qGoesOn_134 (fun r29 τ28 H locs hT hI => ?_)
      refine lv_if_eq (tgt := 207) hx hb dX6_qGoesOn_137 (by decide) (fun hc => ?_) (fun hc => ?_)
      · have hT := hT.1 hc
        refine lv_aload_n hx hb dX6_qGoesOn_207 rfl (lv_at hl 0 rfl) ?_
        refine lv_bipush (v := 43) hx hb dX6_qGoesOn_208 (by decide) ?_
        refine tc_takesSign hC hI hT ⟨Nat.le_of_ble_eq_true rfl, Nat.le_of_ble_eq_true rfl⟩ ⟨Nat.zero_le _, Nat.zero_le _⟩ hl.1 (Nat.le_of_ble_eq_true rfl) dX6_qGoesOn_210 (fun r31 τ30 H locs hT hI => ?_)
        refine lv_if_ne (tgt := 225) hx hb dX6_qGoesOn_213 (by decide) (fun hc => ?_) (fun hc => ?_)
        · have hT := hT.1 hc
          exact w_225 τ30 _ _ _ hT hI (lv_sub hl [0] rfl)
        · have hT := hT.2 hc
          refine lv_aload_n hx hb dX6_qGoesOn_216 rfl (lv_at hl 0 rfl) ?_
          refine lv_bipush (v := 45) hx hb dX6_qGoesOn_217 (by decide) ?_
          refine tc_takesSign hC hI hT ⟨Nat.le_of_ble_eq_true rfl, Nat.le_of_ble_eq_true rfl⟩ ⟨Nat.zero_le _, Nat.zero_le _⟩ hl.1 (Nat.le_of_ble_eq_true rfl) dX6_qGoesOn_219 (fun r33 τ32 H locs hT hI => ?_)
          refine lv_if_eq (tgt := 308) hx hb dX6_qGoesOn_222 (by decide) (fun hc => ?_) (fun hc => ?_)
          · have hT := hT.1 hc
            refine lv_aload_n hx hb dX6_qGoesOn_308 rfl (lv_at hl 0 rfl) ?_
            refine tc_qBracket hC hI hT ⟨Nat.le_of_ble_eq_true rfl, Nat.le_of_ble_eq_true rfl⟩ ⟨Nat.zero_le _, Nat.zero_le _⟩ hl.1 (Nat.le_of_ble_eq_true rfl) dX6_qGoesOn_309 (fun r35 τ34 H locs hT hI => ?_)
            refine lv_bipush (v := 21) hx hb dX6_qGoesOn_312 (by decide) ?_
            refine lv_icmp_eq (tgt := 326) hx hb dX6_qGoesOn_314 (by decide) (fun hc => ?_) (fun hc => ?_)
            · have hT := hT.1 hc
              exact w_326 τ34 _ _ _ hT hI (lv_sub hl [0] rfl)
            · have hT := hT.2 hc
              refine lv_aload_n hx hb dX6_qGoesOn_317 rfl (lv_at hl 0 rfl) ?_
              refine tc_qBracket hC hI hT ⟨Nat.le_of_ble_eq_true rfl, Nat.le_of_ble_eq_true rfl⟩ ⟨Nat.zero_le _, Nat.zero_le _⟩ hl.1 (Nat.le_of_ble_eq_true rfl) dX6_qGoesOn_318 (fun r37 τ36 H locs hT hI => ?_)
              refine lv_bipush (v := 22) hx hb dX6_qGoesOn_321 (by decide) ?_
              refine lv_icmp_ne (tgt := 362) hx hb dX6_qGoesOn_323 (by decide) (fun hc => ?_) (fun hc => ?_)
              · have hT := hT.1 hc
                refine lv_aload_n hx hb dX6_qGoesOn_362 rfl (lv_at hl 0 rfl) ?_
                refine tc_qBracket hC hI hT ⟨Nat.le_of_ble_eq_true rfl, Nat.le_of_ble_eq_true rfl⟩ ⟨Nat.zero_le _, Nat.zero_le _⟩ hl.1 (Nat.le_of_ble_eq_true rfl) dX6_qGoesOn_363 (fun r39 τ38 H locs hT hI => ?_)
                refine lv_iconst (v := -1) hx hb dX6_qGoesOn_366 (by decide) ?_
                refine lv_icmp_eq (tgt := 386) hx hb dX6_qGoesOn_367 (by decide) (fun hc => ?_) (fun hc => ?_)
                · have hT := hT.1 hc
                  refine lv_iconst (v := 0) hx hb dX6_qGoesOn_386 (by decide) ?_
                  exact hret _ _ _ _ _ _ (by decide) hT hI dX6_qGoesOn_387
                · have hT := hT.2 hc
                  refine lv_aload_n hx hb dX6_qGoesOn_370 rfl (lv_at hl 0 rfl) ?_
                  refine tg_5 hC hI dX6_qGoesOn_371 ?_
                  refine lv_if_ne (tgt := 386) hx hb dX6_qGoesOn_374 (by decide) (fun hc => ?_) (fun hc => ?_)
                  · have hT := hT.1 hc
                    refine lv_iconst (v := 0) hx hb dX6_qGoesOn_386 (by decide) ?_
                    exact hret _ _ _ _ _ _ (by decide) hT hI dX6_qGoesOn_387
                  · have hT := hT.2 hc
                    refine lv_aload_n hx hb dX6_qGoesOn_377 rfl (lv_at hl 0 rfl) ?_
                    refine lv_iconst (v := 1) hx hb dX6_qGoesOn_378 (by decide) ?_
                    refine lv_aload_n hx hb dX6_qGoesOn_379 rfl (lv_at hl 0 rfl) ?_
                    refine tg_2 hC hI dX6_qGoesOn_380 ?_
                    refine tc_fail hC hI hT ⟨Nat.le_of_ble_eq_true rfl, Nat.le_of_ble_eq_true rfl⟩ ⟨Nat.zero_le _, Nat.zero_le _⟩ hl.1 (Nat.le_of_ble_eq_true rfl) dX6_qGoesOn_383 (fun τ40 H locs hT hI => ?_)
                    refine lv_iconst (v := 0) hx hb dX6_qGoesOn_386 (by decide) ?_
                    exact hret _ _ _ _ _ _ (by decide) hT hI dX6_qGoesOn_387
              · have hT := hT.2 hc
                exact w_326 τ36 _ _ _ hT hI (lv_sub hl [0] rfl)
          · have hT := hT.2 hc
            exact w_225 τ32 _ _ _ hT hI (lv_sub hl [0] rfl)
      · have hT := hT.2 hc
        exact w_140 τ28 _ _ _ hT hI (lv_sub hl [0] rfl)
  have w_43 : ∀ (k0 : Sto → Prop), (∀ (τ : Sto) (H : Heap) (locs : List Loc) (ls : Array Slot), k0 τ → tI D dA ad sz s.heap τ H locs → lv_has ls 2 [(0, .ref (ad 0))] → W p l e ({ frames := 4, cells := 0, slots := 0, locals := 74 }) s m args below meth c H locs 0 0 Q (F0 m 0 ls [])) → ∀ (τ : Sto) (H : Heap) (locs : List Loc) (ls : Array Slot), T_qGoesOn_43 K k0 τ → tI D dA ad sz s.heap τ H locs → lv_has ls 2 [(0, .ref (ad 0))] → W p l e ({ frames := 4, cells := 0, slots := 0, locals := 74 }) s m args below meth c H locs 0 0 Q (F0 m 43 ls []) := by
    intro k0 hk0 τ H locs ls hT hI hl
    unfold T_qGoesOn_43 at hT
    refine lv_aload_n hx hb dX6_qGoesOn_43 rfl (lv_at hl 0 rfl) ?_
    refine lv_dup hx hb dX6_qGoesOn_44 rfl ?_
    refine tg_2 hC hI dX6_qGoesOn_45 ?_
    refine lv_iconst (v := 1) hx hb dX6_qGoesOn_48 (by decide) ?_
    refine lv_iadd hx hb dX6_qGoesOn_49 ?_
    refine tp_2 hC hI hT dX6_qGoesOn_50 (fun τ41 H locs hT hI => ?_)
    refine lv_aload_n hx hb dX6_qGoesOn_53 rfl (lv_at hl 0 rfl) ?_
    refine tc_qDropsToBracket hC hI hT ⟨Nat.le_of_ble_eq_true rfl, Nat.le_of_ble_eq_true rfl⟩ ⟨Nat.zero_le _, Nat.zero_le _⟩ hl.1 (Nat.le_of_ble_eq_true rfl) dX6_qGoesOn_54 (fun τ42 H locs hT hI => ?_)
    refine lv_aload_n hx hb dX6_qGoesOn_57 rfl (lv_at hl 0 rfl) ?_
    refine lv_dup hx hb dX6_qGoesOn_58 rfl ?_
    refine tg_94 hC hI dX6_qGoesOn_59 ?_
    refine lv_iconst (v := 1) hx hb dX6_qGoesOn_62 (by decide) ?_
    refine lv_isub hx hb dX6_qGoesOn_63 ?_
    refine tp_94 hC hI hT dX6_qGoesOn_64 (fun τ43 H locs hT hI => ?_)
    refine lv_aload_n hx hb dX6_qGoesOn_67 rfl (lv_at hl 0 rfl) ?_
    refine lv_dup hx hb dX6_qGoesOn_68 rfl ?_
    refine tg_95 hC hI dX6_qGoesOn_69 ?_
    refine lv_iconst (v := 1) hx hb dX6_qGoesOn_72 (by decide) ?_
    refine lv_isub hx hb dX6_qGoesOn_73 ?_
    refine tp_95 hC hI hT dX6_qGoesOn_74 (fun τ44 H locs hT hI => ?_)
    refine lv_aload_n hx hb dX6_qGoesOn_77 rfl (lv_at hl 0 rfl) ?_
    refine tg_93 hC hI dX6_qGoesOn_78 ?_
    refine lv_aload_n hx hb dX6_qGoesOn_81 rfl (lv_at hl 0 rfl) ?_
    refine tg_94 hC hI dX6_qGoesOn_82 ?_
    refine tw_iald hC hI tl_94 hT dX6_qGoesOn_85 (fun hT => ?_)
    refine lv_bipush (v := 20) hx hb dX6_qGoesOn_86 (by decide) ?_
    refine lv_icmp_eq (tgt := 115) hx hb dX6_qGoesOn_88 (by decide) (fun hc => ?_) (fun hc => ?_)
    · have hT := hT.1 hc
      refine lv_aload_n hx hb dX6_qGoesOn_115 rfl (lv_at hl 0 rfl) ?_
      refine tc_qEndsPart hC hI hT ⟨Nat.le_of_ble_eq_true rfl, Nat.le_of_ble_eq_true rfl⟩ ⟨Nat.zero_le _, Nat.zero_le _⟩ hl.1 (Nat.le_of_ble_eq_true rfl) dX6_qGoesOn_116 (fun τ45 H locs hT hI => ?_)
      refine lv_goto (tgt := 0) hx hb dX6_qGoesOn_119 (by decide) ?_
      exact hk0 τ45 _ _ _ hT hI (lv_sub hl [0] rfl)
    · have hT := hT.2 hc
      refine lv_aload_n hx hb dX6_qGoesOn_91 rfl (lv_at hl 0 rfl) ?_
      refine lv_aload_n hx hb dX6_qGoesOn_92 rfl (lv_at hl 0 rfl) ?_
      refine tg_93 hC hI dX6_qGoesOn_93 ?_
      refine lv_aload_n hx hb dX6_qGoesOn_96 rfl (lv_at hl 0 rfl) ?_
      refine tg_94 hC hI dX6_qGoesOn_97 ?_
      refine tw_iald hC hI tl_94 hT dX6_qGoesOn_100 (fun hT => ?_)
      refine lv_bipush (v := 23) hx hb dX6_qGoesOn_101 (by decide) ?_
      refine lv_icmp_ne (tgt := 110) hx hb dX6_qGoesOn_103 (by decide) (fun hc => ?_) (fun hc => ?_)
      · have hT := hT.1 hc
        refine lv_bipush (v := 6) hx hb dX6_qGoesOn_110 (by decide) ?_
        refine tc_qCode hC hI hT ⟨Nat.le_of_ble_eq_true rfl, Nat.le_of_ble_eq_true rfl⟩ ⟨Nat.zero_le _, Nat.zero_le _⟩ hl.1 (Nat.le_of_ble_eq_true rfl) dX6_qGoesOn_112 (fun τ46 H locs hT hI => ?_)
        refine lv_aload_n hx hb dX6_qGoesOn_115 rfl (lv_at hl 0 rfl) ?_
        refine tc_qEndsPart hC hI hT ⟨Nat.le_of_ble_eq_true rfl, Nat.le_of_ble_eq_true rfl⟩ ⟨Nat.zero_le _, Nat.zero_le _⟩ hl.1 (Nat.le_of_ble_eq_true rfl) dX6_qGoesOn_116 (fun τ47 H locs hT hI => ?_)
        refine lv_goto (tgt := 0) hx hb dX6_qGoesOn_119 (by decide) ?_
        exact hk0 τ47 _ _ _ hT hI (lv_sub hl [0] rfl)
      · have hT := hT.2 hc
        refine lv_iconst (v := 5) hx hb dX6_qGoesOn_106 (by decide) ?_
        refine lv_goto (tgt := 112) hx hb dX6_qGoesOn_107 (by decide) ?_
        refine tc_qCode hC hI hT ⟨Nat.le_of_ble_eq_true rfl, Nat.le_of_ble_eq_true rfl⟩ ⟨Nat.zero_le _, Nat.zero_le _⟩ hl.1 (Nat.le_of_ble_eq_true rfl) dX6_qGoesOn_112 (fun τ48 H locs hT hI => ?_)
        refine lv_aload_n hx hb dX6_qGoesOn_115 rfl (lv_at hl 0 rfl) ?_
        refine tc_qEndsPart hC hI hT ⟨Nat.le_of_ble_eq_true rfl, Nat.le_of_ble_eq_true rfl⟩ ⟨Nat.zero_le _, Nat.zero_le _⟩ hl.1 (Nat.le_of_ble_eq_true rfl) dX6_qGoesOn_116 (fun τ49 H locs hT hI => ?_)
        refine lv_goto (tgt := 0) hx hb dX6_qGoesOn_119 (by decide) ?_
        exact hk0 τ49 _ _ _ hT hI (lv_sub hl [0] rfl)
  have w_0 : ∀ (n : Nat) (τ : Sto) (H : Heap) (locs : List Loc) (ls : Array Slot), T_qGoesOn_0 K n τ → tI D dA ad sz s.heap τ H locs → lv_has ls 2 [(0, .ref (ad 0))] → W p l e ({ frames := 4, cells := 0, slots := 0, locals := 74 }) s m args below meth c H locs 0 0 Q (F0 m 0 ls []) := by
    intro n
    induction n with
    | zero => intro τ H locs ls hT; exact hT.elim
    | succ n ih =>
      intro τ H locs ls hT hI hl
      unfold T_qGoesOn_0 at hT
      refine lv_aload_n hx hb dX6_qGoesOn_0 rfl (lv_at hl 0 rfl) ?_
      refine tg_5 hC hI dX6_qGoesOn_1 ?_
      refine lv_if_ne (tgt := 122) hx hb dX6_qGoesOn_4 (by decide) (fun hc => ?_) (fun hc => ?_)
      · have hT := hT.1 hc
        exact w_122 τ _ _ _ hT hI (lv_sub hl [0] rfl)
      · have hT := hT.2 hc
        refine lv_aload_n hx hb dX6_qGoesOn_7 rfl (lv_at hl 0 rfl) ?_
        refine tc_look hC hI hT ⟨Nat.le_of_ble_eq_true rfl, Nat.le_of_ble_eq_true rfl⟩ ⟨Nat.zero_le _, Nat.zero_le _⟩ hl.1 (Nat.le_of_ble_eq_true rfl) dX6_qGoesOn_8 (fun r51 τ50 H locs hT hI => ?_)
        refine lv_bipush (v := 41) hx hb dX6_qGoesOn_11 (by decide) ?_
        refine lv_icmp_ne (tgt := 122) hx hb dX6_qGoesOn_13 (by decide) (fun hc => ?_) (fun hc => ?_)
        · have hT := hT.1 hc
          exact w_122 τ50 _ _ _ hT hI (lv_sub hl [0] rfl)
        · have hT := hT.2 hc
          refine lv_aload_n hx hb dX6_qGoesOn_16 rfl (lv_at hl 0 rfl) ?_
          refine tc_qBracket hC hI hT ⟨Nat.le_of_ble_eq_true rfl, Nat.le_of_ble_eq_true rfl⟩ ⟨Nat.zero_le _, Nat.zero_le _⟩ hl.1 (Nat.le_of_ble_eq_true rfl) dX6_qGoesOn_17 (fun r53 τ52 H locs hT hI => ?_)
          refine lv_bipush (v := 20) hx hb dX6_qGoesOn_20 (by decide) ?_
          refine lv_icmp_eq (tgt := 43) hx hb dX6_qGoesOn_22 (by decide) (fun hc => ?_) (fun hc => ?_)
          · have hT := hT.1 hc
            exact w_43 (T_qGoesOn_0 K n) (ih) τ52 _ _ _ hT hI (lv_sub hl [0] rfl)
          · have hT := hT.2 hc
            refine lv_aload_n hx hb dX6_qGoesOn_25 rfl (lv_at hl 0 rfl) ?_
            refine tc_qBracket hC hI hT ⟨Nat.le_of_ble_eq_true rfl, Nat.le_of_ble_eq_true rfl⟩ ⟨Nat.zero_le _, Nat.zero_le _⟩ hl.1 (Nat.le_of_ble_eq_true rfl) dX6_qGoesOn_26 (fun r55 τ54 H locs hT hI => ?_)
            refine lv_bipush (v := 23) hx hb dX6_qGoesOn_29 (by decide) ?_
            refine lv_icmp_eq (tgt := 43) hx hb dX6_qGoesOn_31 (by decide) (fun hc => ?_) (fun hc => ?_)
            · have hT := hT.1 hc
              exact w_43 (T_qGoesOn_0 K n) (ih) τ54 _ _ _ hT hI (lv_sub hl [0] rfl)
            · have hT := hT.2 hc
              refine lv_aload_n hx hb dX6_qGoesOn_34 rfl (lv_at hl 0 rfl) ?_
              refine tc_qBracket hC hI hT ⟨Nat.le_of_ble_eq_true rfl, Nat.le_of_ble_eq_true rfl⟩ ⟨Nat.zero_le _, Nat.zero_le _⟩ hl.1 (Nat.le_of_ble_eq_true rfl) dX6_qGoesOn_35 (fun r57 τ56 H locs hT hI => ?_)
              refine lv_bipush (v := 24) hx hb dX6_qGoesOn_38 (by decide) ?_
              refine lv_icmp_ne (tgt := 122) hx hb dX6_qGoesOn_40 (by decide) (fun hc => ?_) (fun hc => ?_)
              · have hT := hT.1 hc
                exact w_122 τ56 _ _ _ hT hI (lv_sub hl [0] rfl)
              · have hT := hT.2 hc
                exact w_43 (T_qGoesOn_0 K n) (ih) τ56 _ _ _ hT hI (lv_sub hl [0] rfl)
  unfold T_qGoesOn at hT
  obtain ⟨n0, hT⟩ := hT
  exact w_0 n0 τ _ _ _ hT hI (lv_sub hl [0] rfl)
theorem tc_qGoesOn {p : Program} {l : Launch} {e : Env} {R : Room} {s : State} {m : MethodId} {args : Array Value} {below : List Frame} {meth : Method} {c : Code} {H : Heap} {locs : List Loc} {cells slots : Nat} {Q : State → Prop} {cc : ByteArray} {nL : Nat} {D : va_G} {dA : Nat → ClassId} {ad : Nat → Nat} {τ : Sto} {pc sz : Nat} {ls : Array Slot} {rest : List Value} {H0 : Heap} {K : Int32 → Sto → Prop} (hC : tC p m c cc nL s args D dA ad) (hI : tI D dA ad sz H0 τ H locs) (hT : T_qGoesOn τ K) (hR : 4 + 1 ≤ R.frames ∧ 8 + (2 + 11) + 74 ≤ R.locals) (hf : cells ≤ R.cells ∧ slots ≤ R.slots) (hsz : ls.size = nL) (hroom : (rest.map fun v => v.category).sum ≤ 8) (hdg : decode cc pc = .ok (.invokevirtual 629, 3)) (kk : ∀ (r : Int32) (τ1 : Sto) (H1 : Heap) (locs1 : List Loc), K r τ1 → tI D dA ad sz H0 τ1 H1 locs1 → W p l e R s m args below meth c H1 locs1 cells slots Q (F0 m (pc + 3) ls (.int r :: rest))) : W p l e R s m args below meth c H locs cells slots Q (F0 m pc ls (.ref (ad 0) :: rest)) :=
  rg_calli (rg_runV hC.1 hC.2.1 hI.1 hI.2.1 tl_0 rfl (met_qGoesOn l D dA ad hC.2.2 sz τ K hT) (lw_V q2156 q2158 qs92 q170 q2159) 0 (by decide +kernel) ⟨rfl, rfl⟩ hR rfl hsz rfl hroom hf hdg) hI.2.2 (fun r τ1 H1 l1 hk hz hP hS => kk r τ1 H1 l1 hk ⟨hP, hz, hS⟩)
set_option maxHeartbeats 4000000 in
set_option maxRecDepth 100000 in
theorem met_qSums (l : Launch) (D : va_G) (dA : Nat → ClassId) (ad : Nat → Nat) (hJ : rgJ twL ad) (sz : Nat) (τ : Sto) (K : Sto → Prop) (hT : T_qSums τ K) : Met l yX6_qSums (ws_ yX6_qSums cX6_qSums 3 (none)) ({ frames := 7, cells := 0, slots := 0, locals := 143 }) (va_Pc [.ref (ad 0)] (rgU D vwCl dA twL ad sz τ)) (va_Qv K (rgU D vwCl dA twL ad sz) (rgAd twL ad)) 0 0 (rgAd twL ad) := by
  refine tw_metv hJ (by decide) rfl (Nat.le_of_ble_eq_true rfl) ?_
  intro p e s m args below meth c Q hC hret hI ls hl
  have hx := hC.1.1
  have hb := hC.1.2.1
  have hl : lv_has ls 3 [(0, .ref (ad 0))] := hl
  have w_53 : ∀ (x1 : Int32) (n : Nat) (τ : Sto) (H : Heap) (locs : List Loc) (ls : Array Slot), T_qSums_53 K x1 n τ → tI D dA ad sz s.heap τ H locs → lv_has ls 3 [(0, .ref (ad 0)), (1, .int x1)] → W p l e ({ frames := 7, cells := 0, slots := 0, locals := 143 }) s m args below meth c H locs 0 0 Q (F0 m 53 ls []) := by
    intro x1 n
    induction n with
    | zero => intro τ H locs ls hT; exact hT.elim
    | succ n ih =>
      intro τ H locs ls hT hI hl
      unfold T_qSums_53 at hT
      refine lv_aload_n hx hb dX6_qSums_53 rfl (lv_at hl 0 rfl) ?_
      refine tg_5 hC hI dX6_qSums_54 ?_
      refine lv_if_ne (tgt := 78) hx hb dX6_qSums_57 (by decide) (fun hc => ?_) (fun hc => ?_)
      · have hT := hT.1 hc
        refine lv_aload_n hx hb dX6_qSums_78 rfl (lv_at hl 0 rfl) ?_
        refine lv_iload_n hx hb dX6_qSums_79 rfl (lv_at hl 1 rfl) ?_
        refine tp_96 hC hI hT dX6_qSums_80 (fun τ1 H locs hT hI => ?_)
        exact hret _ _ _ _ _ hT hI dX6_qSums_83
      · have hT := hT.2 hc
        refine lv_aload_n hx hb dX6_qSums_60 rfl (lv_at hl 0 rfl) ?_
        refine tg_94 hC hI dX6_qSums_61 ?_
        refine lv_aload_n hx hb dX6_qSums_64 rfl (lv_at hl 0 rfl) ?_
        refine tg_96 hC hI dX6_qSums_65 ?_
        refine lv_icmp_le (tgt := 78) hx hb dX6_qSums_68 (by decide) (fun hc => ?_) (fun hc => ?_)
        · have hT := hT.1 hc
          refine lv_aload_n hx hb dX6_qSums_78 rfl (lv_at hl 0 rfl) ?_
          refine lv_iload_n hx hb dX6_qSums_79 rfl (lv_at hl 1 rfl) ?_
          refine tp_96 hC hI hT dX6_qSums_80 (fun τ2 H locs hT hI => ?_)
          exact hret _ _ _ _ _ hT hI dX6_qSums_83
        · have hT := hT.2 hc
          refine lv_aload_n hx hb dX6_qSums_71 rfl (lv_at hl 0 rfl) ?_
          refine tc_qDrops hC hI hT ⟨Nat.le_of_ble_eq_true rfl, Nat.le_of_ble_eq_true rfl⟩ ⟨Nat.zero_le _, Nat.zero_le _⟩ hl.1 (Nat.le_of_ble_eq_true rfl) dX6_qSums_72 (fun τ3 H locs hT hI => ?_)
          refine lv_goto (tgt := 53) hx hb dX6_qSums_75 (by decide) ?_
          exact ih τ3 _ _ _ hT hI (lv_sub hl [0, 1] rfl)
  have w_15 : ∀ (x1 : Int32) (n : Nat) (x2 : Int32) (τ : Sto) (H : Heap) (locs : List Loc) (ls : Array Slot), T_qSums_15 K x1 n x2 τ → tI D dA ad sz s.heap τ H locs → lv_has ls 3 [(0, .ref (ad 0)), (1, .int x1), (2, .int x2)] → W p l e ({ frames := 7, cells := 0, slots := 0, locals := 143 }) s m args below meth c H locs 0 0 Q (F0 m 15 ls []) := by
    intro x1 n
    induction n with
    | zero => intro x2 τ H locs ls hT; exact hT.elim
    | succ n ih =>
      intro x2 τ H locs ls hT hI hl
      unfold T_qSums_15 at hT
      refine lv_iload_n hx hb dX6_qSums_15 rfl (lv_at hl 2 rfl) ?_
      refine lv_if_eq (tgt := 53) hx hb dX6_qSums_16 (by decide) (fun hc => ?_) (fun hc => ?_)
      · have hT := hT.1 hc
        obtain ⟨n53, hT⟩ := hT
        exact w_53 x1 n53 τ _ _ _ hT hI (lv_sub hl [0, 1] rfl)
      · have hT := hT.2 hc
        refine lv_aload_n hx hb dX6_qSums_19 rfl (lv_at hl 0 rfl) ?_
        refine tg_5 hC hI dX6_qSums_20 ?_
        refine lv_if_ne (tgt := 53) hx hb dX6_qSums_23 (by decide) (fun hc => ?_) (fun hc => ?_)
        · have hT := hT.1 hc
          obtain ⟨n53, hT⟩ := hT
          exact w_53 x1 n53 τ _ _ _ hT hI (lv_sub hl [0, 1] rfl)
        · have hT := hT.2 hc
          refine lv_aload_n hx hb dX6_qSums_26 rfl (lv_at hl 0 rfl) ?_
          refine tc_qPartTold hC hI hT ⟨Nat.le_of_ble_eq_true rfl, Nat.le_of_ble_eq_true rfl⟩ ⟨Nat.zero_le _, Nat.zero_le _⟩ hl.1 (Nat.le_of_ble_eq_true rfl) dX6_qSums_27 (fun τ4 H locs hT hI => ?_)
          refine lv_aload_n hx hb dX6_qSums_30 rfl (lv_at hl 0 rfl) ?_
          refine tg_5 hC hI dX6_qSums_31 ?_
          refine lv_if_ne (tgt := 48) hx hb dX6_qSums_34 (by decide) (fun hc => ?_) (fun hc => ?_)
          · have hT := hT.1 hc
            refine lv_iconst (v := 0) hx hb dX6_qSums_48 (by decide) ?_
            refine lv_istore_n (lv' := [(2, .int 0), (0, .ref (ad 0)), (1, .int x1)]) hx hb dX6_qSums_49 rfl hl (Nat.le_of_ble_eq_true rfl) rfl (fun ls hl => ?_)
            refine lv_goto (tgt := 15) hx hb dX6_qSums_50 (by decide) ?_
            exact ih 0 τ4 _ _ _ hT hI (lv_sub hl [1, 2, 0] rfl)
          · have hT := hT.2 hc
            refine lv_aload_n hx hb dX6_qSums_37 rfl (lv_at hl 0 rfl) ?_
            refine tc_qGoesOn hC hI hT ⟨Nat.le_of_ble_eq_true rfl, Nat.le_of_ble_eq_true rfl⟩ ⟨Nat.zero_le _, Nat.zero_le _⟩ hl.1 (Nat.le_of_ble_eq_true rfl) dX6_qSums_38 (fun r6 τ5 H locs hT hI => ?_)
            refine lv_if_eq (tgt := 48) hx hb dX6_qSums_41 (by decide) (fun hc => ?_) (fun hc => ?_)
            · have hT := hT.1 hc
              refine lv_iconst (v := 0) hx hb dX6_qSums_48 (by decide) ?_
              refine lv_istore_n (lv' := [(2, .int 0), (0, .ref (ad 0)), (1, .int x1)]) hx hb dX6_qSums_49 rfl hl (Nat.le_of_ble_eq_true rfl) rfl (fun ls hl => ?_)
              refine lv_goto (tgt := 15) hx hb dX6_qSums_50 (by decide) ?_
              exact ih 0 τ5 _ _ _ hT hI (lv_sub hl [1, 2, 0] rfl)
            · have hT := hT.2 hc
              refine lv_iconst (v := 1) hx hb dX6_qSums_44 (by decide) ?_
              refine lv_goto (tgt := 49) hx hb dX6_qSums_45 (by decide) ?_
              refine lv_istore_n (lv' := [(2, .int 1), (0, .ref (ad 0)), (1, .int x1)]) hx hb dX6_qSums_49 rfl hl (Nat.le_of_ble_eq_true rfl) rfl (fun ls hl => ?_)
              refine lv_goto (tgt := 15) hx hb dX6_qSums_50 (by decide) ?_
              exact ih 1 τ5 _ _ _ hT hI (lv_sub hl [1, 2, 0] rfl)
  unfold T_qSums at hT
  refine lv_aload_n hx hb dX6_qSums_0 rfl (lv_at hl 0 rfl) ?_
  refine tg_96 hC hI dX6_qSums_1 ?_
  refine lv_istore_n (lv' := [(1, .int (τ.1 0 96)), (0, .ref (ad 0))]) hx hb dX6_qSums_4 rfl hl (Nat.le_of_ble_eq_true rfl) rfl (fun ls hl => ?_)
  refine lv_aload_n hx hb dX6_qSums_5 rfl (lv_at hl 1 rfl) ?_
  refine lv_aload_n hx hb dX6_qSums_6 rfl (lv_at hl 1 rfl) ?_
  refine tg_94 hC hI dX6_qSums_7 ?_
  refine tp_96 hC hI hT dX6_qSums_10 (fun τ7 H locs hT hI => ?_)
  refine lv_iconst (v := 1) hx hb dX6_qSums_13 (by decide) ?_
  refine lv_istore_n (lv' := [(2, .int 1), (1, .int (τ.1 0 96)), (0, .ref (ad 0))]) hx hb dX6_qSums_14 rfl hl (Nat.le_of_ble_eq_true rfl) rfl (fun ls hl => ?_)
  obtain ⟨n15, hT⟩ := hT
  exact w_15 (τ.1 0 96) n15 1 τ7 _ _ _ hT hI (lv_sub hl [2, 1, 0] rfl)
theorem tc_qSums {p : Program} {l : Launch} {e : Env} {R : Room} {s : State} {m : MethodId} {args : Array Value} {below : List Frame} {meth : Method} {c : Code} {H : Heap} {locs : List Loc} {cells slots : Nat} {Q : State → Prop} {cc : ByteArray} {nL : Nat} {D : va_G} {dA : Nat → ClassId} {ad : Nat → Nat} {τ : Sto} {pc sz : Nat} {ls : Array Slot} {rest : List Value} {H0 : Heap} {K : Sto → Prop} (hC : tC p m c cc nL s args D dA ad) (hI : tI D dA ad sz H0 τ H locs) (hT : T_qSums τ K) (hR : 7 + 1 ≤ R.frames ∧ 8 + (3 + 11) + 143 ≤ R.locals) (hf : cells ≤ R.cells ∧ slots ≤ R.slots) (hsz : ls.size = nL) (hroom : (rest.map fun v => v.category).sum ≤ 8) (hdg : decode cc pc = .ok (.invokevirtual 346, 3)) (kk : ∀ (τ1 : Sto) (H1 : Heap) (locs1 : List Loc), K τ1 → tI D dA ad sz H0 τ1 H1 locs1 → W p l e R s m args below meth c H1 locs1 cells slots Q (F0 m (pc + 3) ls (rest))) : W p l e R s m args below meth c H locs cells slots Q (F0 m pc ls (.ref (ad 0) :: rest)) :=
  rg_callv (rg_runV hC.1 hC.2.1 hI.1 hI.2.1 tl_0 rfl (met_qSums l D dA ad hC.2.2 sz τ K hT) (lw_V q2116 q2118 qs82 q170 q2119) 0 (by decide +kernel) ⟨rfl, rfl⟩ hR rfl hsz rfl hroom hf hdg) hI.2.2 (fun τ1 H1 l1 hk hz hP hS => kk τ1 H1 l1 hk ⟨hP, hz, hS⟩)
set_option maxHeartbeats 4000000 in
set_option maxRecDepth 100000 in
theorem met_qFact (l : Launch) (D : va_G) (dA : Nat → ClassId) (ad : Nat → Nat) (hJ : rgJ twL ad) (sz : Nat) (τ : Sto) (K : Sto → Prop) (hT : T_qFact τ K) : Met l yX6_qFact (ws_ yX6_qFact cX6_qFact 2 (none)) ({ frames := 8, cells := 0, slots := 0, locals := 165 }) (va_Pc [.ref (ad 0)] (rgU D vwCl dA twL ad sz τ)) (va_Qv K (rgU D vwCl dA twL ad sz) (rgAd twL ad)) 0 0 (rgAd twL ad) := by
  refine tw_metv hJ (by decide) rfl (Nat.le_of_ble_eq_true rfl) ?_
  intro p e s m args below meth c Q hC hret hI ls hl
  have hx := hC.1.1
  have hb := hC.1.2.1
  have hl : lv_has ls 2 [(0, .ref (ad 0))] := hl
  have w_63 : ∀ (x1 : Int32) (τ : Sto) (H : Heap) (locs : List Loc) (ls : Array Slot), T_qFact_63 K x1 τ → tI D dA ad sz s.heap τ H locs → lv_has ls 2 [(0, .ref (ad 0)), (1, .int x1)] → W p l e ({ frames := 8, cells := 0, slots := 0, locals := 165 }) s m args below meth c H locs 0 0 Q (F0 m 63 ls []) := by
    intro x1 τ H locs ls hT hI hl
    unfold T_qFact_63 at hT
    refine lv_aload_n hx hb dX6_qFact_63 rfl (lv_at hl 0 rfl) ?_
    refine lv_dup hx hb dX6_qFact_64 rfl ?_
    refine tg_2 hC hI dX6_qFact_65 ?_
    refine lv_iconst (v := 1) hx hb dX6_qFact_68 (by decide) ?_
    refine lv_iadd hx hb dX6_qFact_69 ?_
    refine tp_2 hC hI hT dX6_qFact_70 (fun τ1 H locs hT hI => ?_)
    refine lv_aload_n hx hb dX6_qFact_73 rfl (lv_at hl 0 rfl) ?_
    refine tc_qSums hC hI hT ⟨Nat.le_of_ble_eq_true rfl, Nat.le_of_ble_eq_true rfl⟩ ⟨Nat.zero_le _, Nat.zero_le _⟩ hl.1 (Nat.le_of_ble_eq_true rfl) dX6_qFact_74 (fun τ2 H locs hT hI => ?_)
    refine lv_aload_n hx hb dX6_qFact_77 rfl (lv_at hl 0 rfl) ?_
    refine lv_iload_n hx hb dX6_qFact_78 rfl (lv_at hl 1 rfl) ?_
    refine lv_bipush (v := 60) hx hb dX6_qFact_79 (by decide) ?_
    refine lv_icmp_ne (tgt := 89) hx hb dX6_qFact_81 (by decide) (fun hc => ?_) (fun hc => ?_)
    · have hT := hT.1 hc
      refine lv_iload_n hx hb dX6_qFact_89 rfl (lv_at hl 1 rfl) ?_
      refine lv_bipush (v := 62) hx hb dX6_qFact_90 (by decide) ?_
      refine lv_icmp_ne (tgt := 100) hx hb dX6_qFact_92 (by decide) (fun hc => ?_) (fun hc => ?_)
      · have hT := hT.1 hc
        refine lv_bipush (v := 9) hx hb dX6_qFact_100 (by decide) ?_
        refine tc_qCode hC hI hT ⟨Nat.le_of_ble_eq_true rfl, Nat.le_of_ble_eq_true rfl⟩ ⟨Nat.zero_le _, Nat.zero_le _⟩ hl.1 (Nat.le_of_ble_eq_true rfl) dX6_qFact_102 (fun τ3 H locs hT hI => ?_)
        exact hret _ _ _ _ _ hT hI dX6_qFact_105
      · have hT := hT.2 hc
        refine lv_bipush (v := 8) hx hb dX6_qFact_95 (by decide) ?_
        refine lv_goto (tgt := 102) hx hb dX6_qFact_97 (by decide) ?_
        refine tc_qCode hC hI hT ⟨Nat.le_of_ble_eq_true rfl, Nat.le_of_ble_eq_true rfl⟩ ⟨Nat.zero_le _, Nat.zero_le _⟩ hl.1 (Nat.le_of_ble_eq_true rfl) dX6_qFact_102 (fun τ4 H locs hT hI => ?_)
        exact hret _ _ _ _ _ hT hI dX6_qFact_105
    · have hT := hT.2 hc
      refine lv_bipush (v := 7) hx hb dX6_qFact_84 (by decide) ?_
      refine lv_goto (tgt := 102) hx hb dX6_qFact_86 (by decide) ?_
      refine tc_qCode hC hI hT ⟨Nat.le_of_ble_eq_true rfl, Nat.le_of_ble_eq_true rfl⟩ ⟨Nat.zero_le _, Nat.zero_le _⟩ hl.1 (Nat.le_of_ble_eq_true rfl) dX6_qFact_102 (fun τ5 H locs hT hI => ?_)
      exact hret _ _ _ _ _ hT hI dX6_qFact_105
  unfold T_qFact at hT
  refine lv_aload_n hx hb dX6_qFact_0 rfl (lv_at hl 0 rfl) ?_
  refine lv_aload_n hx hb dX6_qFact_1 rfl (lv_at hl 0 rfl) ?_
  refine tg_77 hC hI dX6_qFact_2 ?_
  refine tc_eats hC hI hT ⟨Nat.le_of_ble_eq_true rfl, Nat.le_of_ble_eq_true rfl⟩ ⟨Nat.zero_le _, Nat.zero_le _⟩ hl.1 (Nat.le_of_ble_eq_true rfl) dX6_qFact_5 (fun r7 τ6 H locs hT hI => ?_)
  refine lv_if_eq (tgt := 18) hx hb dX6_qFact_8 (by decide) (fun hc => ?_) (fun hc => ?_)
  · have hT := hT.1 hc
    refine lv_aload_n hx hb dX6_qFact_18 rfl (lv_at hl 0 rfl) ?_
    refine tc_qSums hC hI hT ⟨Nat.le_of_ble_eq_true rfl, Nat.le_of_ble_eq_true rfl⟩ ⟨Nat.zero_le _, Nat.zero_le _⟩ hl.1 (Nat.le_of_ble_eq_true rfl) dX6_qFact_19 (fun τ8 H locs hT hI => ?_)
    refine lv_aload_n hx hb dX6_qFact_22 rfl (lv_at hl 0 rfl) ?_
    refine tg_5 hC hI dX6_qFact_23 ?_
    refine lv_if_eq (tgt := 30) hx hb dX6_qFact_26 (by decide) (fun hc => ?_) (fun hc => ?_)
    · have hT := hT.1 hc
      refine lv_aload_n hx hb dX6_qFact_30 rfl (lv_at hl 0 rfl) ?_
      refine tc_look hC hI hT ⟨Nat.le_of_ble_eq_true rfl, Nat.le_of_ble_eq_true rfl⟩ ⟨Nat.zero_le _, Nat.zero_le _⟩ hl.1 (Nat.le_of_ble_eq_true rfl) dX6_qFact_31 (fun r10 τ9 H locs hT hI => ?_)
      refine lv_istore_n (lv' := [(1, .int r10), (0, .ref (ad 0))]) hx hb dX6_qFact_34 rfl hl (Nat.le_of_ble_eq_true rfl) rfl (fun ls hl => ?_)
      refine lv_iload_n hx hb dX6_qFact_35 rfl (lv_at hl 0 rfl) ?_
      refine lv_bipush (v := 60) hx hb dX6_qFact_36 (by decide) ?_
      refine lv_icmp_eq (tgt := 63) hx hb dX6_qFact_38 (by decide) (fun hc => ?_) (fun hc => ?_)
      · have hT := hT.1 hc
        exact w_63 r10 τ9 _ _ _ hT hI (lv_sub hl [1, 0] rfl)
      · have hT := hT.2 hc
        refine lv_iload_n hx hb dX6_qFact_41 rfl (lv_at hl 0 rfl) ?_
        refine lv_bipush (v := 62) hx hb dX6_qFact_42 (by decide) ?_
        refine lv_icmp_eq (tgt := 63) hx hb dX6_qFact_44 (by decide) (fun hc => ?_) (fun hc => ?_)
        · have hT := hT.1 hc
          exact w_63 r10 τ9 _ _ _ hT hI (lv_sub hl [1, 0] rfl)
        · have hT := hT.2 hc
          refine lv_iload_n hx hb dX6_qFact_47 rfl (lv_at hl 0 rfl) ?_
          refine lv_bipush (v := 61) hx hb dX6_qFact_48 (by decide) ?_
          refine lv_icmp_eq (tgt := 63) hx hb dX6_qFact_50 (by decide) (fun hc => ?_) (fun hc => ?_)
          · have hT := hT.1 hc
            exact w_63 r10 τ9 _ _ _ hT hI (lv_sub hl [1, 0] rfl)
          · have hT := hT.2 hc
            refine lv_aload_n hx hb dX6_qFact_53 rfl (lv_at hl 1 rfl) ?_
            refine lv_iconst (v := 1) hx hb dX6_qFact_54 (by decide) ?_
            refine lv_aload_n hx hb dX6_qFact_55 rfl (lv_at hl 1 rfl) ?_
            refine tg_2 hC hI dX6_qFact_56 ?_
            refine tc_fail hC hI hT ⟨Nat.le_of_ble_eq_true rfl, Nat.le_of_ble_eq_true rfl⟩ ⟨Nat.zero_le _, Nat.zero_le _⟩ hl.1 (Nat.le_of_ble_eq_true rfl) dX6_qFact_59 (fun τ11 H locs hT hI => ?_)
            exact hret _ _ _ _ _ hT hI dX6_qFact_62
    · have hT := hT.2 hc
      exact hret _ _ _ _ _ hT hI dX6_qFact_29
  · have hT := hT.2 hc
    refine lv_aload_n hx hb dX6_qFact_11 rfl (lv_at hl 0 rfl) ?_
    refine lv_bipush (v := 13) hx hb dX6_qFact_12 (by decide) ?_
    refine tc_qCode hC hI hT ⟨Nat.le_of_ble_eq_true rfl, Nat.le_of_ble_eq_true rfl⟩ ⟨Nat.zero_le _, Nat.zero_le _⟩ hl.1 (Nat.le_of_ble_eq_true rfl) dX6_qFact_14 (fun τ12 H locs hT hI => ?_)
    exact hret _ _ _ _ _ hT hI dX6_qFact_17
theorem tc_qFact {p : Program} {l : Launch} {e : Env} {R : Room} {s : State} {m : MethodId} {args : Array Value} {below : List Frame} {meth : Method} {c : Code} {H : Heap} {locs : List Loc} {cells slots : Nat} {Q : State → Prop} {cc : ByteArray} {nL : Nat} {D : va_G} {dA : Nat → ClassId} {ad : Nat → Nat} {τ : Sto} {pc sz : Nat} {ls : Array Slot} {rest : List Value} {H0 : Heap} {K : Sto → Prop} (hC : tC p m c cc nL s args D dA ad) (hI : tI D dA ad sz H0 τ H locs) (hT : T_qFact τ K) (hR : 8 + 1 ≤ R.frames ∧ 8 + (2 + 11) + 165 ≤ R.locals) (hf : cells ≤ R.cells ∧ slots ≤ R.slots) (hsz : ls.size = nL) (hroom : (rest.map fun v => v.category).sum ≤ 8) (hdg : decode cc pc = .ok (.invokevirtual 632, 3)) (kk : ∀ (τ1 : Sto) (H1 : Heap) (locs1 : List Loc), K τ1 → tI D dA ad sz H0 τ1 H1 locs1 → W p l e R s m args below meth c H1 locs1 cells slots Q (F0 m (pc + 3) ls (rest))) : W p l e R s m args below meth c H locs cells slots Q (F0 m pc ls (.ref (ad 0) :: rest)) :=
  rg_callv (rg_runV hC.1 hC.2.1 hI.1 hI.2.1 tl_0 rfl (met_qFact l D dA ad hC.2.2 sz τ K hT) (lw_V q2108 q2110 qs80 q170 q2111) 0 (by decide +kernel) ⟨rfl, rfl⟩ hR rfl hsz rfl hroom hf hdg) hI.2.2 (fun τ1 H1 l1 hk hz hP hS => kk τ1 H1 l1 hk ⟨hP, hz, hS⟩)
set_option maxHeartbeats 4000000 in
set_option maxRecDepth 100000 in
theorem met_qDropsNots (l : Launch) (D : va_G) (dA : Nat → ClassId) (ad : Nat → Nat) (hJ : rgJ twL ad) (sz : Nat) (τ : Sto) (K : Sto → Prop) (hT : T_qDropsNots τ K) : Met l yX6_qDropsNots (ws_ yX6_qDropsNots cX6_qDropsNots 1 (none)) ({ frames := 3, cells := 0, slots := 0, locals := 53 }) (va_Pc [.ref (ad 0)] (rgU D vwCl dA twL ad sz τ)) (va_Qv K (rgU D vwCl dA twL ad sz) (rgAd twL ad)) 0 0 (rgAd twL ad) := by
  refine tw_metv hJ (by decide) rfl (Nat.le_of_ble_eq_true rfl) ?_
  intro p e s m args below meth c Q hC hret hI ls hl
  have hx := hC.1.1
  have hb := hC.1.2.1
  have hl : lv_has ls 1 [(0, .ref (ad 0))] := hl
  have w_0 : ∀ (n : Nat) (τ : Sto) (H : Heap) (locs : List Loc) (ls : Array Slot), T_qDropsNots_0 K n τ → tI D dA ad sz s.heap τ H locs → lv_has ls 1 [(0, .ref (ad 0))] → W p l e ({ frames := 3, cells := 0, slots := 0, locals := 53 }) s m args below meth c H locs 0 0 Q (F0 m 0 ls []) := by
    intro n
    induction n with
    | zero => intro τ H locs ls hT; exact hT.elim
    | succ n ih =>
      intro τ H locs ls hT hI hl
      unfold T_qDropsNots_0 at hT
      refine lv_aload_n hx hb dX6_qDropsNots_0 rfl (lv_at hl 0 rfl) ?_
      refine tg_5 hC hI dX6_qDropsNots_1 ?_
      refine lv_if_ne (tgt := 33) hx hb dX6_qDropsNots_4 (by decide) (fun hc => ?_) (fun hc => ?_)
      · have hT := hT.1 hc
        exact hret _ _ _ _ _ hT hI dX6_qDropsNots_33
      · have hT := hT.2 hc
        refine lv_aload_n hx hb dX6_qDropsNots_7 rfl (lv_at hl 0 rfl) ?_
        refine lv_bipush (v := 12) hx hb dX6_qDropsNots_8 (by decide) ?_
        refine tc_qIsOn hC hI hT ⟨Nat.le_of_ble_eq_true rfl, Nat.le_of_ble_eq_true rfl⟩ ⟨Nat.zero_le _, Nat.zero_le _⟩ hl.1 (Nat.le_of_ble_eq_true rfl) dX6_qDropsNots_10 (fun r2 τ1 H locs hT hI => ?_)
        refine lv_if_eq (tgt := 33) hx hb dX6_qDropsNots_13 (by decide) (fun hc => ?_) (fun hc => ?_)
        · have hT := hT.1 hc
          exact hret _ _ _ _ _ hT hI dX6_qDropsNots_33
        · have hT := hT.2 hc
          refine lv_aload_n hx hb dX6_qDropsNots_16 rfl (lv_at hl 0 rfl) ?_
          refine lv_dup hx hb dX6_qDropsNots_17 rfl ?_
          refine tg_95 hC hI dX6_qDropsNots_18 ?_
          refine lv_iconst (v := 1) hx hb dX6_qDropsNots_21 (by decide) ?_
          refine lv_isub hx hb dX6_qDropsNots_22 ?_
          refine tp_95 hC hI hT dX6_qDropsNots_23 (fun τ3 H locs hT hI => ?_)
          refine lv_aload_n hx hb dX6_qDropsNots_26 rfl (lv_at hl 0 rfl) ?_
          refine tc_qDrops hC hI hT ⟨Nat.le_of_ble_eq_true rfl, Nat.le_of_ble_eq_true rfl⟩ ⟨Nat.zero_le _, Nat.zero_le _⟩ hl.1 (Nat.le_of_ble_eq_true rfl) dX6_qDropsNots_27 (fun τ4 H locs hT hI => ?_)
          refine lv_goto (tgt := 0) hx hb dX6_qDropsNots_30 (by decide) ?_
          exact ih τ4 _ _ _ hT hI (lv_sub hl [0] rfl)
  unfold T_qDropsNots at hT
  obtain ⟨n0, hT⟩ := hT
  exact w_0 n0 τ _ _ _ hT hI (lv_sub hl [0] rfl)
theorem tc_qDropsNots {p : Program} {l : Launch} {e : Env} {R : Room} {s : State} {m : MethodId} {args : Array Value} {below : List Frame} {meth : Method} {c : Code} {H : Heap} {locs : List Loc} {cells slots : Nat} {Q : State → Prop} {cc : ByteArray} {nL : Nat} {D : va_G} {dA : Nat → ClassId} {ad : Nat → Nat} {τ : Sto} {pc sz : Nat} {ls : Array Slot} {rest : List Value} {H0 : Heap} {K : Sto → Prop} (hC : tC p m c cc nL s args D dA ad) (hI : tI D dA ad sz H0 τ H locs) (hT : T_qDropsNots τ K) (hR : 3 + 1 ≤ R.frames ∧ 8 + (1 + 11) + 53 ≤ R.locals) (hf : cells ≤ R.cells ∧ slots ≤ R.slots) (hsz : ls.size = nL) (hroom : (rest.map fun v => v.category).sum ≤ 8) (hdg : decode cc pc = .ok (.invokevirtual 635, 3)) (kk : ∀ (τ1 : Sto) (H1 : Heap) (locs1 : List Loc), K τ1 → tI D dA ad sz H0 τ1 H1 locs1 → W p l e R s m args below meth c H1 locs1 cells slots Q (F0 m (pc + 3) ls (rest))) : W p l e R s m args below meth c H locs cells slots Q (F0 m pc ls (.ref (ad 0) :: rest)) :=
  rg_callv (rg_runV hC.1 hC.2.1 hI.1 hI.2.1 tl_0 rfl (met_qDropsNots l D dA ad hC.2.2 sz τ K hT) (lw_V q2175 q2177 qs96 q170 q2178) 0 (by decide +kernel) ⟨rfl, rfl⟩ hR rfl hsz rfl hroom hf hdg) hI.2.2 (fun τ1 H1 l1 hk hz hP hS => kk τ1 H1 l1 hk ⟨hP, hz, hS⟩)
set_option maxHeartbeats 4000000 in
set_option maxRecDepth 100000 in
theorem met_qHasSquare (l : Launch) (D : va_G) (dA : Nat → ClassId) (ad : Nat → Nat) (hJ : rgJ twL ad) (sz : Nat) (τ : Sto) (K : Int32 → Sto → Prop) (hT : T_qHasSquare τ K) : Met l yX6_qHasSquare (ws_ yX6_qHasSquare cX6_qHasSquare 2 (some .boolean)) ({ frames := 1, cells := 0, slots := 0, locals := 12 }) (va_Pc [.ref (ad 0)] (rgU D vwCl dA twL ad sz τ)) (va_Qi K (rgU D vwCl dA twL ad sz) (rgAd twL ad)) 0 0 (rgAd twL ad) := by
  refine tw_metz hJ (by decide) rfl (Nat.le_of_ble_eq_true rfl) ?_
  intro p e s m args below meth c Q hC hret hI ls hl
  have hx := hC.1.1
  have hb := hC.1.2.1
  have hl : lv_has ls 2 [(0, .ref (ad 0))] := hl
  have w_2 : ∀ (n : Nat) (x1 : Int32) (τ : Sto) (H : Heap) (locs : List Loc) (ls : Array Slot), T_qHasSquare_2 K n x1 τ → tI D dA ad sz s.heap τ H locs → lv_has ls 2 [(0, .ref (ad 0)), (1, .int x1)] → W p l e ({ frames := 1, cells := 0, slots := 0, locals := 12 }) s m args below meth c H locs 0 0 Q (F0 m 2 ls []) := by
    intro n
    induction n with
    | zero => intro x1 τ H locs ls hT; exact hT.elim
    | succ n ih =>
      intro x1 τ H locs ls hT hI hl
      unfold T_qHasSquare_2 at hT
      refine lv_iload_n hx hb dX6_qHasSquare_2 rfl (lv_at hl 1 rfl) ?_
      refine lv_aload_n hx hb dX6_qHasSquare_3 rfl (lv_at hl 0 rfl) ?_
      refine tg_94 hC hI dX6_qHasSquare_4 ?_
      refine lv_icmp_ge (tgt := 29) hx hb dX6_qHasSquare_7 (by decide) (fun hc => ?_) (fun hc => ?_)
      · have hT := hT.1 hc
        refine lv_iconst (v := 0) hx hb dX6_qHasSquare_29 (by decide) ?_
        exact hret _ _ _ _ _ _ (by decide) hT hI dX6_qHasSquare_30
      · have hT := hT.2 hc
        refine lv_aload_n hx hb dX6_qHasSquare_10 rfl (lv_at hl 0 rfl) ?_
        refine tg_93 hC hI dX6_qHasSquare_11 ?_
        refine lv_iload_n hx hb dX6_qHasSquare_14 rfl (lv_at hl 1 rfl) ?_
        refine tw_iald hC hI tl_94 hT dX6_qHasSquare_15 (fun hT => ?_)
        refine lv_bipush (v := 25) hx hb dX6_qHasSquare_16 (by decide) ?_
        refine lv_icmp_ne (tgt := 23) hx hb dX6_qHasSquare_18 (by decide) (fun hc => ?_) (fun hc => ?_)
        · have hT := hT.1 hc
          refine lv_iinc (v := x1 + 1) (lv' := [(1, .int (x1 + 1)), (0, .ref (ad 0))]) hx hb dX6_qHasSquare_23 hl (k := 1) rfl rfl (Nat.le_of_ble_eq_true rfl) rfl (fun ls hl => ?_)
          refine lv_goto (tgt := 2) hx hb dX6_qHasSquare_26 (by decide) ?_
          exact ih (x1 + 1) τ _ _ _ hT hI (lv_sub hl [1, 0] rfl)
        · have hT := hT.2 hc
          refine lv_iconst (v := 1) hx hb dX6_qHasSquare_21 (by decide) ?_
          exact hret _ _ _ _ _ _ (by decide) hT hI dX6_qHasSquare_22
  unfold T_qHasSquare at hT
  refine lv_iconst (v := 0) hx hb dX6_qHasSquare_0 (by decide) ?_
  refine lv_istore_n (lv' := [(1, .int 0), (0, .ref (ad 0))]) hx hb dX6_qHasSquare_1 rfl hl (Nat.le_of_ble_eq_true rfl) rfl (fun ls hl => ?_)
  obtain ⟨n2, hT⟩ := hT
  exact w_2 n2 0 τ _ _ _ hT hI (lv_sub hl [1, 0] rfl)
theorem tc_qHasSquare {p : Program} {l : Launch} {e : Env} {R : Room} {s : State} {m : MethodId} {args : Array Value} {below : List Frame} {meth : Method} {c : Code} {H : Heap} {locs : List Loc} {cells slots : Nat} {Q : State → Prop} {cc : ByteArray} {nL : Nat} {D : va_G} {dA : Nat → ClassId} {ad : Nat → Nat} {τ : Sto} {pc sz : Nat} {ls : Array Slot} {rest : List Value} {H0 : Heap} {K : Int32 → Sto → Prop} (hC : tC p m c cc nL s args D dA ad) (hI : tI D dA ad sz H0 τ H locs) (hT : T_qHasSquare τ K) (hR : 1 + 1 ≤ R.frames ∧ 8 + (2 + 11) + 12 ≤ R.locals) (hf : cells ≤ R.cells ∧ slots ≤ R.slots) (hsz : ls.size = nL) (hroom : (rest.map fun v => v.category).sum ≤ 8) (hdg : decode cc pc = .ok (.invokevirtual 641, 3)) (kk : ∀ (r : Int32) (τ1 : Sto) (H1 : Heap) (locs1 : List Loc), K r τ1 → tI D dA ad sz H0 τ1 H1 locs1 → W p l e R s m args below meth c H1 locs1 cells slots Q (F0 m (pc + 3) ls (.int r :: rest))) : W p l e R s m args below meth c H locs cells slots Q (F0 m pc ls (.ref (ad 0) :: rest)) :=
  rg_calli (rg_runV hC.1 hC.2.1 hI.1 hI.2.1 tl_0 rfl (met_qHasSquare l D dA ad hC.2.2 sz τ K hT) (lw_V q2183 q2185 qs98 q170 q2186) 0 (by decide +kernel) ⟨rfl, rfl⟩ hR rfl hsz rfl hroom hf hdg) hI.2.2 (fun r τ1 H1 l1 hk hz hP hS => kk r τ1 H1 l1 hk ⟨hP, hz, hS⟩)
set_option maxHeartbeats 4000000 in
set_option maxRecDepth 100000 in
theorem met_qGoesOnTest (l : Launch) (D : va_G) (dA : Nat → ClassId) (ad : Nat → Nat) (hJ : rgJ twL ad) (sz : Nat) (τ : Sto) (K : Int32 → Sto → Prop) (hT : T_qGoesOnTest τ K) : Met l yX6_qGoesOnTest (ws_ yX6_qGoesOnTest cX6_qGoesOnTest 1 (some .boolean)) ({ frames := 4, cells := 0, slots := 0, locals := 76 }) (va_Pc [.ref (ad 0)] (rgU D vwCl dA twL ad sz τ)) (va_Qi K (rgU D vwCl dA twL ad sz) (rgAd twL ad)) 0 0 (rgAd twL ad) := by
  refine tw_metz hJ (by decide) rfl (Nat.le_of_ble_eq_true rfl) ?_
  intro p e s m args below meth c Q hC hret hI ls hl
  have hx := hC.1.1
  have hb := hC.1.2.1
  have hl : lv_has ls 1 [(0, .ref (ad 0))] := hl
  have w_137 : ∀ (n : Nat) (τ : Sto) (H : Heap) (locs : List Loc) (ls : Array Slot), T_qGoesOnTest_137 K n τ → tI D dA ad sz s.heap τ H locs → lv_has ls 1 [(0, .ref (ad 0))] → W p l e ({ frames := 4, cells := 0, slots := 0, locals := 76 }) s m args below meth c H locs 0 0 Q (F0 m 137 ls []) := by
    intro n
    induction n with
    | zero => intro τ H locs ls hT; exact hT.elim
    | succ n ih =>
      intro τ H locs ls hT hI hl
      unfold T_qGoesOnTest_137 at hT
      refine lv_aload_n hx hb dX6_qGoesOnTest_137 rfl (lv_at hl 0 rfl) ?_
      refine lv_bipush (v := 10) hx hb dX6_qGoesOnTest_138 (by decide) ?_
      refine tc_qIsOn hC hI hT ⟨Nat.le_of_ble_eq_true rfl, Nat.le_of_ble_eq_true rfl⟩ ⟨Nat.zero_le _, Nat.zero_le _⟩ hl.1 (Nat.le_of_ble_eq_true rfl) dX6_qGoesOnTest_140 (fun r2 τ1 H locs hT hI => ?_)
      refine lv_if_ne (tgt := 155) hx hb dX6_qGoesOnTest_143 (by decide) (fun hc => ?_) (fun hc => ?_)
      · have hT := hT.1 hc
        refine lv_aload_n hx hb dX6_qGoesOnTest_155 rfl (lv_at hl 0 rfl) ?_
        refine tc_qDrops hC hI hT ⟨Nat.le_of_ble_eq_true rfl, Nat.le_of_ble_eq_true rfl⟩ ⟨Nat.zero_le _, Nat.zero_le _⟩ hl.1 (Nat.le_of_ble_eq_true rfl) dX6_qGoesOnTest_156 (fun τ3 H locs hT hI => ?_)
        refine lv_goto (tgt := 137) hx hb dX6_qGoesOnTest_159 (by decide) ?_
        exact ih τ3 _ _ _ hT hI (lv_sub hl [0] rfl)
      · have hT := hT.2 hc
        refine lv_aload_n hx hb dX6_qGoesOnTest_146 rfl (lv_at hl 0 rfl) ?_
        refine lv_bipush (v := 11) hx hb dX6_qGoesOnTest_147 (by decide) ?_
        refine tc_qIsOn hC hI hT ⟨Nat.le_of_ble_eq_true rfl, Nat.le_of_ble_eq_true rfl⟩ ⟨Nat.zero_le _, Nat.zero_le _⟩ hl.1 (Nat.le_of_ble_eq_true rfl) dX6_qGoesOnTest_149 (fun r5 τ4 H locs hT hI => ?_)
        refine lv_if_eq (tgt := 162) hx hb dX6_qGoesOnTest_152 (by decide) (fun hc => ?_) (fun hc => ?_)
        · have hT := hT.1 hc
          refine lv_aload_n hx hb dX6_qGoesOnTest_162 rfl (lv_at hl 0 rfl) ?_
          refine tg_93 hC hI dX6_qGoesOnTest_163 ?_
          refine lv_aload_n hx hb dX6_qGoesOnTest_166 rfl (lv_at hl 0 rfl) ?_
          refine tg_94 hC hI dX6_qGoesOnTest_167 ?_
          refine lv_bipush (v := 11) hx hb dX6_qGoesOnTest_170 (by decide) ?_
          refine tw_iast hC hI tl_94 hT dX6_qGoesOnTest_172 (fun τ6 H locs hT hI => ?_)
          refine lv_aload_n hx hb dX6_qGoesOnTest_173 rfl (lv_at hl 0 rfl) ?_
          refine lv_dup hx hb dX6_qGoesOnTest_174 rfl ?_
          refine tg_94 hC hI dX6_qGoesOnTest_175 ?_
          refine lv_iconst (v := 1) hx hb dX6_qGoesOnTest_178 (by decide) ?_
          refine lv_iadd hx hb dX6_qGoesOnTest_179 ?_
          refine tp_94 hC hI hT dX6_qGoesOnTest_180 (fun τ7 H locs hT hI => ?_)
          refine lv_iconst (v := 1) hx hb dX6_qGoesOnTest_183 (by decide) ?_
          exact hret _ _ _ _ _ _ (by decide) hT hI dX6_qGoesOnTest_184
        · have hT := hT.2 hc
          refine lv_aload_n hx hb dX6_qGoesOnTest_155 rfl (lv_at hl 0 rfl) ?_
          refine tc_qDrops hC hI hT ⟨Nat.le_of_ble_eq_true rfl, Nat.le_of_ble_eq_true rfl⟩ ⟨Nat.zero_le _, Nat.zero_le _⟩ hl.1 (Nat.le_of_ble_eq_true rfl) dX6_qGoesOnTest_156 (fun τ8 H locs hT hI => ?_)
          refine lv_goto (tgt := 137) hx hb dX6_qGoesOnTest_159 (by decide) ?_
          exact ih τ8 _ _ _ hT hI (lv_sub hl [0] rfl)
  have w_87 : ∀ (n : Nat) (τ : Sto) (H : Heap) (locs : List Loc) (ls : Array Slot), T_qGoesOnTest_87 K n τ → tI D dA ad sz s.heap τ H locs → lv_has ls 1 [(0, .ref (ad 0))] → W p l e ({ frames := 4, cells := 0, slots := 0, locals := 76 }) s m args below meth c H locs 0 0 Q (F0 m 87 ls []) := by
    intro n
    induction n with
    | zero => intro τ H locs ls hT; exact hT.elim
    | succ n ih =>
      intro τ H locs ls hT hI hl
      unfold T_qGoesOnTest_87 at hT
      refine lv_aload_n hx hb dX6_qGoesOnTest_87 rfl (lv_at hl 0 rfl) ?_
      refine lv_bipush (v := 10) hx hb dX6_qGoesOnTest_88 (by decide) ?_
      refine tc_qIsOn hC hI hT ⟨Nat.le_of_ble_eq_true rfl, Nat.le_of_ble_eq_true rfl⟩ ⟨Nat.zero_le _, Nat.zero_le _⟩ hl.1 (Nat.le_of_ble_eq_true rfl) dX6_qGoesOnTest_90 (fun r10 τ9 H locs hT hI => ?_)
      refine lv_if_eq (tgt := 103) hx hb dX6_qGoesOnTest_93 (by decide) (fun hc => ?_) (fun hc => ?_)
      · have hT := hT.1 hc
        refine lv_aload_n hx hb dX6_qGoesOnTest_103 rfl (lv_at hl 0 rfl) ?_
        refine tg_93 hC hI dX6_qGoesOnTest_104 ?_
        refine lv_aload_n hx hb dX6_qGoesOnTest_107 rfl (lv_at hl 0 rfl) ?_
        refine tg_94 hC hI dX6_qGoesOnTest_108 ?_
        refine lv_bipush (v := 10) hx hb dX6_qGoesOnTest_111 (by decide) ?_
        refine tw_iast hC hI tl_94 hT dX6_qGoesOnTest_113 (fun τ11 H locs hT hI => ?_)
        refine lv_aload_n hx hb dX6_qGoesOnTest_114 rfl (lv_at hl 0 rfl) ?_
        refine lv_dup hx hb dX6_qGoesOnTest_115 rfl ?_
        refine tg_94 hC hI dX6_qGoesOnTest_116 ?_
        refine lv_iconst (v := 1) hx hb dX6_qGoesOnTest_119 (by decide) ?_
        refine lv_iadd hx hb dX6_qGoesOnTest_120 ?_
        refine tp_94 hC hI hT dX6_qGoesOnTest_121 (fun τ12 H locs hT hI => ?_)
        refine lv_iconst (v := 1) hx hb dX6_qGoesOnTest_124 (by decide) ?_
        exact hret _ _ _ _ _ _ (by decide) hT hI dX6_qGoesOnTest_125
      · have hT := hT.2 hc
        refine lv_aload_n hx hb dX6_qGoesOnTest_96 rfl (lv_at hl 0 rfl) ?_
        refine tc_qDrops hC hI hT ⟨Nat.le_of_ble_eq_true rfl, Nat.le_of_ble_eq_true rfl⟩ ⟨Nat.zero_le _, Nat.zero_le _⟩ hl.1 (Nat.le_of_ble_eq_true rfl) dX6_qGoesOnTest_97 (fun τ13 H locs hT hI => ?_)
        refine lv_goto (tgt := 87) hx hb dX6_qGoesOnTest_100 (by decide) ?_
        exact ih τ13 _ _ _ hT hI (lv_sub hl [0] rfl)
  have w_76 : ∀ (τ : Sto) (H : Heap) (locs : List Loc) (ls : Array Slot), T_qGoesOnTest_76 K τ → tI D dA ad sz s.heap τ H locs → lv_has ls 1 [(0, .ref (ad 0))] → W p l e ({ frames := 4, cells := 0, slots := 0, locals := 76 }) s m args below meth c H locs 0 0 Q (F0 m 76 ls []) := by
    intro τ H locs ls hT hI hl
    unfold T_qGoesOnTest_76 at hT
    refine lv_aload_n hx hb dX6_qGoesOnTest_76 rfl (lv_at hl 0 rfl) ?_
    refine lv_aload_n hx hb dX6_qGoesOnTest_77 rfl (lv_at hl 0 rfl) ?_
    refine tg_75 hC hI dX6_qGoesOnTest_78 ?_
    refine tc_eats hC hI hT ⟨Nat.le_of_ble_eq_true rfl, Nat.le_of_ble_eq_true rfl⟩ ⟨Nat.zero_le _, Nat.zero_le _⟩ hl.1 (Nat.le_of_ble_eq_true rfl) dX6_qGoesOnTest_81 (fun r15 τ14 H locs hT hI => ?_)
    refine lv_if_eq (tgt := 126) hx hb dX6_qGoesOnTest_84 (by decide) (fun hc => ?_) (fun hc => ?_)
    · have hT := hT.1 hc
      refine lv_aload_n hx hb dX6_qGoesOnTest_126 rfl (lv_at hl 0 rfl) ?_
      refine lv_aload_n hx hb dX6_qGoesOnTest_127 rfl (lv_at hl 0 rfl) ?_
      refine tg_76 hC hI dX6_qGoesOnTest_128 ?_
      refine tc_eats hC hI hT ⟨Nat.le_of_ble_eq_true rfl, Nat.le_of_ble_eq_true rfl⟩ ⟨Nat.zero_le _, Nat.zero_le _⟩ hl.1 (Nat.le_of_ble_eq_true rfl) dX6_qGoesOnTest_131 (fun r17 τ16 H locs hT hI => ?_)
      refine lv_if_eq (tgt := 185) hx hb dX6_qGoesOnTest_134 (by decide) (fun hc => ?_) (fun hc => ?_)
      · have hT := hT.1 hc
        refine lv_aload_n hx hb dX6_qGoesOnTest_185 rfl (lv_at hl 0 rfl) ?_
        refine tg_5 hC hI dX6_qGoesOnTest_186 ?_
        refine lv_if_ne (tgt := 208) hx hb dX6_qGoesOnTest_189 (by decide) (fun hc => ?_) (fun hc => ?_)
        · have hT := hT.1 hc
          refine lv_iconst (v := 0) hx hb dX6_qGoesOnTest_208 (by decide) ?_
          exact hret _ _ _ _ _ _ (by decide) hT hI dX6_qGoesOnTest_209
        · have hT := hT.2 hc
          refine lv_aload_n hx hb dX6_qGoesOnTest_192 rfl (lv_at hl 0 rfl) ?_
          refine tc_qHasSquare hC hI hT ⟨Nat.le_of_ble_eq_true rfl, Nat.le_of_ble_eq_true rfl⟩ ⟨Nat.zero_le _, Nat.zero_le _⟩ hl.1 (Nat.le_of_ble_eq_true rfl) dX6_qGoesOnTest_193 (fun r19 τ18 H locs hT hI => ?_)
          refine lv_if_eq (tgt := 208) hx hb dX6_qGoesOnTest_196 (by decide) (fun hc => ?_) (fun hc => ?_)
          · have hT := hT.1 hc
            refine lv_iconst (v := 0) hx hb dX6_qGoesOnTest_208 (by decide) ?_
            exact hret _ _ _ _ _ _ (by decide) hT hI dX6_qGoesOnTest_209
          · have hT := hT.2 hc
            refine lv_aload_n hx hb dX6_qGoesOnTest_199 rfl (lv_at hl 0 rfl) ?_
            refine lv_iconst (v := 1) hx hb dX6_qGoesOnTest_200 (by decide) ?_
            refine lv_aload_n hx hb dX6_qGoesOnTest_201 rfl (lv_at hl 0 rfl) ?_
            refine tg_2 hC hI dX6_qGoesOnTest_202 ?_
            refine tc_fail hC hI hT ⟨Nat.le_of_ble_eq_true rfl, Nat.le_of_ble_eq_true rfl⟩ ⟨Nat.zero_le _, Nat.zero_le _⟩ hl.1 (Nat.le_of_ble_eq_true rfl) dX6_qGoesOnTest_205 (fun τ20 H locs hT hI => ?_)
            refine lv_iconst (v := 0) hx hb dX6_qGoesOnTest_208 (by decide) ?_
            exact hret _ _ _ _ _ _ (by decide) hT hI dX6_qGoesOnTest_209
      · have hT := hT.2 hc
        obtain ⟨n137, hT⟩ := hT
        exact w_137 n137 τ16 _ _ _ hT hI (lv_sub hl [0] rfl)
    · have hT := hT.2 hc
      obtain ⟨n87, hT⟩ := hT
      exact w_87 n87 τ14 _ _ _ hT hI (lv_sub hl [0] rfl)
  have w_33 : ∀ (k0 : Sto → Prop), (∀ (τ : Sto) (H : Heap) (locs : List Loc) (ls : Array Slot), k0 τ → tI D dA ad sz s.heap τ H locs → lv_has ls 1 [(0, .ref (ad 0))] → W p l e ({ frames := 4, cells := 0, slots := 0, locals := 76 }) s m args below meth c H locs 0 0 Q (F0 m 0 ls [])) → ∀ (n : Nat) (τ : Sto) (H : Heap) (locs : List Loc) (ls : Array Slot), T_qGoesOnTest_33 K k0 n τ → tI D dA ad sz s.heap τ H locs → lv_has ls 1 [(0, .ref (ad 0))] → W p l e ({ frames := 4, cells := 0, slots := 0, locals := 76 }) s m args below meth c H locs 0 0 Q (F0 m 33 ls []) := by
    intro k0 hk0 n
    induction n with
    | zero => intro τ H locs ls hT; exact hT.elim
    | succ n ih =>
      intro τ H locs ls hT hI hl
      unfold T_qGoesOnTest_33 at hT
      refine lv_aload_n hx hb dX6_qGoesOnTest_33 rfl (lv_at hl 0 rfl) ?_
      refine lv_bipush (v := 25) hx hb dX6_qGoesOnTest_34 (by decide) ?_
      refine tc_qIsOn hC hI hT ⟨Nat.le_of_ble_eq_true rfl, Nat.le_of_ble_eq_true rfl⟩ ⟨Nat.zero_le _, Nat.zero_le _⟩ hl.1 (Nat.le_of_ble_eq_true rfl) dX6_qGoesOnTest_36 (fun r22 τ21 H locs hT hI => ?_)
      refine lv_if_ne (tgt := 49) hx hb dX6_qGoesOnTest_39 (by decide) (fun hc => ?_) (fun hc => ?_)
      · have hT := hT.1 hc
        refine lv_aload_n hx hb dX6_qGoesOnTest_49 rfl (lv_at hl 0 rfl) ?_
        refine lv_dup hx hb dX6_qGoesOnTest_50 rfl ?_
        refine tg_94 hC hI dX6_qGoesOnTest_51 ?_
        refine lv_iconst (v := 1) hx hb dX6_qGoesOnTest_54 (by decide) ?_
        refine lv_isub hx hb dX6_qGoesOnTest_55 ?_
        refine tp_94 hC hI hT dX6_qGoesOnTest_56 (fun τ23 H locs hT hI => ?_)
        refine lv_aload_n hx hb dX6_qGoesOnTest_59 rfl (lv_at hl 0 rfl) ?_
        refine lv_dup hx hb dX6_qGoesOnTest_60 rfl ?_
        refine tg_95 hC hI dX6_qGoesOnTest_61 ?_
        refine lv_iconst (v := 1) hx hb dX6_qGoesOnTest_64 (by decide) ?_
        refine lv_isub hx hb dX6_qGoesOnTest_65 ?_
        refine tp_95 hC hI hT dX6_qGoesOnTest_66 (fun τ24 H locs hT hI => ?_)
        refine lv_aload_n hx hb dX6_qGoesOnTest_69 rfl (lv_at hl 0 rfl) ?_
        refine tc_qDropsNots hC hI hT ⟨Nat.le_of_ble_eq_true rfl, Nat.le_of_ble_eq_true rfl⟩ ⟨Nat.zero_le _, Nat.zero_le _⟩ hl.1 (Nat.le_of_ble_eq_true rfl) dX6_qGoesOnTest_70 (fun τ25 H locs hT hI => ?_)
        refine lv_goto (tgt := 0) hx hb dX6_qGoesOnTest_73 (by decide) ?_
        exact hk0 τ25 _ _ _ hT hI (lv_sub hl [0] rfl)
      · have hT := hT.2 hc
        refine lv_aload_n hx hb dX6_qGoesOnTest_42 rfl (lv_at hl 0 rfl) ?_
        refine tc_qDrops hC hI hT ⟨Nat.le_of_ble_eq_true rfl, Nat.le_of_ble_eq_true rfl⟩ ⟨Nat.zero_le _, Nat.zero_le _⟩ hl.1 (Nat.le_of_ble_eq_true rfl) dX6_qGoesOnTest_43 (fun τ26 H locs hT hI => ?_)
        refine lv_goto (tgt := 33) hx hb dX6_qGoesOnTest_46 (by decide) ?_
        exact ih τ26 _ _ _ hT hI (lv_sub hl [0] rfl)
  have w_0 : ∀ (n : Nat) (τ : Sto) (H : Heap) (locs : List Loc) (ls : Array Slot), T_qGoesOnTest_0 K n τ → tI D dA ad sz s.heap τ H locs → lv_has ls 1 [(0, .ref (ad 0))] → W p l e ({ frames := 4, cells := 0, slots := 0, locals := 76 }) s m args below meth c H locs 0 0 Q (F0 m 0 ls []) := by
    intro n
    induction n with
    | zero => intro τ H locs ls hT; exact hT.elim
    | succ n ih =>
      intro τ H locs ls hT hI hl
      unfold T_qGoesOnTest_0 at hT
      refine lv_aload_n hx hb dX6_qGoesOnTest_0 rfl (lv_at hl 0 rfl) ?_
      refine tg_5 hC hI dX6_qGoesOnTest_1 ?_
      refine lv_if_ne (tgt := 76) hx hb dX6_qGoesOnTest_4 (by decide) (fun hc => ?_) (fun hc => ?_)
      · have hT := hT.1 hc
        exact w_76 τ _ _ _ hT hI (lv_sub hl [0] rfl)
      · have hT := hT.2 hc
        refine lv_aload_n hx hb dX6_qGoesOnTest_7 rfl (lv_at hl 0 rfl) ?_
        refine tc_look hC hI hT ⟨Nat.le_of_ble_eq_true rfl, Nat.le_of_ble_eq_true rfl⟩ ⟨Nat.zero_le _, Nat.zero_le _⟩ hl.1 (Nat.le_of_ble_eq_true rfl) dX6_qGoesOnTest_8 (fun r28 τ27 H locs hT hI => ?_)
        refine lv_bipush (v := 93) hx hb dX6_qGoesOnTest_11 (by decide) ?_
        refine lv_icmp_ne (tgt := 76) hx hb dX6_qGoesOnTest_13 (by decide) (fun hc => ?_) (fun hc => ?_)
        · have hT := hT.1 hc
          exact w_76 τ27 _ _ _ hT hI (lv_sub hl [0] rfl)
        · have hT := hT.2 hc
          refine lv_aload_n hx hb dX6_qGoesOnTest_16 rfl (lv_at hl 0 rfl) ?_
          refine tc_qHasSquare hC hI hT ⟨Nat.le_of_ble_eq_true rfl, Nat.le_of_ble_eq_true rfl⟩ ⟨Nat.zero_le _, Nat.zero_le _⟩ hl.1 (Nat.le_of_ble_eq_true rfl) dX6_qGoesOnTest_17 (fun r30 τ29 H locs hT hI => ?_)
          refine lv_if_eq (tgt := 76) hx hb dX6_qGoesOnTest_20 (by decide) (fun hc => ?_) (fun hc => ?_)
          · have hT := hT.1 hc
            exact w_76 τ29 _ _ _ hT hI (lv_sub hl [0] rfl)
          · have hT := hT.2 hc
            refine lv_aload_n hx hb dX6_qGoesOnTest_23 rfl (lv_at hl 0 rfl) ?_
            refine lv_dup hx hb dX6_qGoesOnTest_24 rfl ?_
            refine tg_2 hC hI dX6_qGoesOnTest_25 ?_
            refine lv_iconst (v := 1) hx hb dX6_qGoesOnTest_28 (by decide) ?_
            refine lv_iadd hx hb dX6_qGoesOnTest_29 ?_
            refine tp_2 hC hI hT dX6_qGoesOnTest_30 (fun τ31 H locs hT hI => ?_)
            obtain ⟨n33, hT⟩ := hT
            exact w_33 (T_qGoesOnTest_0 K n) (ih) n33 τ31 _ _ _ hT hI (lv_sub hl [0] rfl)
  unfold T_qGoesOnTest at hT
  obtain ⟨n0, hT⟩ := hT
  exact w_0 n0 τ _ _ _ hT hI (lv_sub hl [0] rfl)
theorem tc_qGoesOnTest {p : Program} {l : Launch} {e : Env} {R : Room} {s : State} {m : MethodId} {args : Array Value} {below : List Frame} {meth : Method} {c : Code} {H : Heap} {locs : List Loc} {cells slots : Nat} {Q : State → Prop} {cc : ByteArray} {nL : Nat} {D : va_G} {dA : Nat → ClassId} {ad : Nat → Nat} {τ : Sto} {pc sz : Nat} {ls : Array Slot} {rest : List Value} {H0 : Heap} {K : Int32 → Sto → Prop} (hC : tC p m c cc nL s args D dA ad) (hI : tI D dA ad sz H0 τ H locs) (hT : T_qGoesOnTest τ K) (hR : 4 + 1 ≤ R.frames ∧ 8 + (1 + 11) + 76 ≤ R.locals) (hf : cells ≤ R.cells ∧ slots ≤ R.slots) (hsz : ls.size = nL) (hroom : (rest.map fun v => v.category).sum ≤ 8) (hdg : decode cc pc = .ok (.invokevirtual 638, 3)) (kk : ∀ (r : Int32) (τ1 : Sto) (H1 : Heap) (locs1 : List Loc), K r τ1 → tI D dA ad sz H0 τ1 H1 locs1 → W p l e R s m args below meth c H1 locs1 cells slots Q (F0 m (pc + 3) ls (.int r :: rest))) : W p l e R s m args below meth c H locs cells slots Q (F0 m pc ls (.ref (ad 0) :: rest)) :=
  rg_calli (rg_runV hC.1 hC.2.1 hI.1 hI.2.1 tl_0 rfl (met_qGoesOnTest l D dA ad hC.2.2 sz τ K hT) (lw_V q2179 q2181 qs97 q170 q2182) 0 (by decide +kernel) ⟨rfl, rfl⟩ hR rfl hsz rfl hroom hf hdg) hI.2.2 (fun r τ1 H1 l1 hk hz hP hS => kk r τ1 H1 l1 hk ⟨hP, hz, hS⟩)
set_option maxHeartbeats 4000000 in
set_option maxRecDepth 100000 in
theorem met_qTest (l : Launch) (D : va_G) (dA : Nat → ClassId) (ad : Nat → Nat) (hJ : rgJ twL ad) (sz : Nat) (τ : Sto) (K : Sto → Prop) (hT : T_qTest τ K) : Met l yX6_qTest (ws_ yX6_qTest cX6_qTest 3 (none)) ({ frames := 9, cells := 0, slots := 0, locals := 186 }) (va_Pc [.ref (ad 0)] (rgU D vwCl dA twL ad sz τ)) (va_Qv K (rgU D vwCl dA twL ad sz) (rgAd twL ad)) 0 0 (rgAd twL ad) := by
  refine tw_metv hJ (by decide) rfl (Nat.le_of_ble_eq_true rfl) ?_
  intro p e s m args below meth c Q hC hret hI ls hl
  have hx := hC.1.1
  have hb := hC.1.2.1
  have hl : lv_has ls 3 [(0, .ref (ad 0))] := hl
  have w_110 : ∀ (n : Nat) (τ : Sto) (H : Heap) (locs : List Loc) (ls : Array Slot), T_qTest_110 K n τ → tI D dA ad sz s.heap τ H locs → lv_has ls 3 [(0, .ref (ad 0))] → W p l e ({ frames := 9, cells := 0, slots := 0, locals := 186 }) s m args below meth c H locs 0 0 Q (F0 m 110 ls []) := by
    intro n
    induction n with
    | zero => intro τ H locs ls hT; exact hT.elim
    | succ n ih =>
      intro τ H locs ls hT hI hl
      unfold T_qTest_110 at hT
      refine lv_aload_n hx hb dX6_qTest_110 rfl (lv_at hl 0 rfl) ?_
      refine tg_5 hC hI dX6_qTest_111 ?_
      refine lv_if_ne (tgt := 131) hx hb dX6_qTest_114 (by decide) (fun hc => ?_) (fun hc => ?_)
      · have hT := hT.1 hc
        exact hret _ _ _ _ _ hT hI dX6_qTest_131
      · have hT := hT.2 hc
        refine lv_aload_n hx hb dX6_qTest_117 rfl (lv_at hl 0 rfl) ?_
        refine tg_94 hC hI dX6_qTest_118 ?_
        refine lv_if_le (tgt := 131) hx hb dX6_qTest_121 (by decide) (fun hc => ?_) (fun hc => ?_)
        · have hT := hT.1 hc
          exact hret _ _ _ _ _ hT hI dX6_qTest_131
        · have hT := hT.2 hc
          refine lv_aload_n hx hb dX6_qTest_124 rfl (lv_at hl 0 rfl) ?_
          refine tc_qDrops hC hI hT ⟨Nat.le_of_ble_eq_true rfl, Nat.le_of_ble_eq_true rfl⟩ ⟨Nat.zero_le _, Nat.zero_le _⟩ hl.1 (Nat.le_of_ble_eq_true rfl) dX6_qTest_125 (fun τ1 H locs hT hI => ?_)
          refine lv_goto (tgt := 110) hx hb dX6_qTest_128 (by decide) ?_
          exact ih τ1 _ _ _ hT hI (lv_sub hl [0] rfl)
  have w_2 : ∀ (n : Nat) (x1 : Int32) (τ : Sto) (H : Heap) (locs : List Loc) (ls : Array Slot), T_qTest_2 K n x1 τ → tI D dA ad sz s.heap τ H locs → lv_has ls 3 [(0, .ref (ad 0)), (1, .int x1)] → W p l e ({ frames := 9, cells := 0, slots := 0, locals := 186 }) s m args below meth c H locs 0 0 Q (F0 m 2 ls []) := by
    intro n
    induction n with
    | zero => intro x1 τ H locs ls hT; exact hT.elim
    | succ n ih =>
      intro x1 τ H locs ls hT hI hl
      unfold T_qTest_2 at hT
      refine lv_iload_n hx hb dX6_qTest_2 rfl (lv_at hl 1 rfl) ?_
      refine lv_if_eq (tgt := 110) hx hb dX6_qTest_3 (by decide) (fun hc => ?_) (fun hc => ?_)
      · have hT := hT.1 hc
        obtain ⟨n110, hT⟩ := hT
        exact w_110 n110 τ _ _ _ hT hI (lv_sub hl [0] rfl)
      · have hT := hT.2 hc
        refine lv_aload_n hx hb dX6_qTest_6 rfl (lv_at hl 0 rfl) ?_
        refine tg_5 hC hI dX6_qTest_7 ?_
        refine lv_if_ne (tgt := 110) hx hb dX6_qTest_10 (by decide) (fun hc => ?_) (fun hc => ?_)
        · have hT := hT.1 hc
          obtain ⟨n110, hT⟩ := hT
          exact w_110 n110 τ _ _ _ hT hI (lv_sub hl [0] rfl)
        · have hT := hT.2 hc
          refine lv_aload_n hx hb dX6_qTest_13 rfl (lv_at hl 0 rfl) ?_
          refine tc_look hC hI hT ⟨Nat.le_of_ble_eq_true rfl, Nat.le_of_ble_eq_true rfl⟩ ⟨Nat.zero_le _, Nat.zero_le _⟩ hl.1 (Nat.le_of_ble_eq_true rfl) dX6_qTest_14 (fun r3 τ2 H locs hT hI => ?_)
          refine lv_istore_n (lv' := [(2, .int r3), (0, .ref (ad 0)), (1, .int x1)]) hx hb dX6_qTest_17 rfl hl (Nat.le_of_ble_eq_true rfl) rfl (fun ls hl => ?_)
          refine lv_iload_n hx hb dX6_qTest_18 rfl (lv_at hl 0 rfl) ?_
          refine lv_bipush (v := 91) hx hb dX6_qTest_19 (by decide) ?_
          refine lv_icmp_ne (tgt := 47) hx hb dX6_qTest_21 (by decide) (fun hc => ?_) (fun hc => ?_)
          · have hT := hT.1 hc
            refine lv_aload_n hx hb dX6_qTest_47 rfl (lv_at hl 1 rfl) ?_
            refine lv_aload_n hx hb dX6_qTest_48 rfl (lv_at hl 1 rfl) ?_
            refine tg_74 hC hI dX6_qTest_49 ?_
            refine tc_isHere hC hI hT ⟨Nat.le_of_ble_eq_true rfl, Nat.le_of_ble_eq_true rfl⟩ ⟨Nat.zero_le _, Nat.zero_le _⟩ hl.1 (Nat.le_of_ble_eq_true rfl) dX6_qTest_52 (fun r5 τ4 H locs hT hI => ?_)
            refine lv_if_eq (tgt := 79) hx hb dX6_qTest_55 (by decide) (fun hc => ?_) (fun hc => ?_)
            · have hT := hT.1 hc
              refine lv_aload_n hx hb dX6_qTest_79 rfl (lv_at hl 1 rfl) ?_
              refine tc_qFact hC hI hT ⟨Nat.le_of_ble_eq_true rfl, Nat.le_of_ble_eq_true rfl⟩ ⟨Nat.zero_le _, Nat.zero_le _⟩ hl.1 (Nat.le_of_ble_eq_true rfl) dX6_qTest_80 (fun τ6 H locs hT hI => ?_)
              refine lv_aload_n hx hb dX6_qTest_83 rfl (lv_at hl 1 rfl) ?_
              refine tc_qDropsNots hC hI hT ⟨Nat.le_of_ble_eq_true rfl, Nat.le_of_ble_eq_true rfl⟩ ⟨Nat.zero_le _, Nat.zero_le _⟩ hl.1 (Nat.le_of_ble_eq_true rfl) dX6_qTest_84 (fun τ7 H locs hT hI => ?_)
              refine lv_aload_n hx hb dX6_qTest_87 rfl (lv_at hl 1 rfl) ?_
              refine tg_5 hC hI dX6_qTest_88 ?_
              refine lv_if_ne (tgt := 105) hx hb dX6_qTest_91 (by decide) (fun hc => ?_) (fun hc => ?_)
              · have hT := hT.1 hc
                refine lv_iconst (v := 0) hx hb dX6_qTest_105 (by decide) ?_
                refine lv_istore_n (lv' := [(1, .int 0), (2, .int r3), (0, .ref (ad 0))]) hx hb dX6_qTest_106 rfl hl (Nat.le_of_ble_eq_true rfl) rfl (fun ls hl => ?_)
                refine lv_goto (tgt := 2) hx hb dX6_qTest_107 (by decide) ?_
                exact ih 0 τ7 _ _ _ hT hI (lv_sub hl [2, 0] rfl)
              · have hT := hT.2 hc
                refine lv_aload_n hx hb dX6_qTest_94 rfl (lv_at hl 1 rfl) ?_
                refine tc_qGoesOnTest hC hI hT ⟨Nat.le_of_ble_eq_true rfl, Nat.le_of_ble_eq_true rfl⟩ ⟨Nat.zero_le _, Nat.zero_le _⟩ hl.1 (Nat.le_of_ble_eq_true rfl) dX6_qTest_95 (fun r9 τ8 H locs hT hI => ?_)
                refine lv_if_eq (tgt := 105) hx hb dX6_qTest_98 (by decide) (fun hc => ?_) (fun hc => ?_)
                · have hT := hT.1 hc
                  refine lv_iconst (v := 0) hx hb dX6_qTest_105 (by decide) ?_
                  refine lv_istore_n (lv' := [(1, .int 0), (2, .int r3), (0, .ref (ad 0))]) hx hb dX6_qTest_106 rfl hl (Nat.le_of_ble_eq_true rfl) rfl (fun ls hl => ?_)
                  refine lv_goto (tgt := 2) hx hb dX6_qTest_107 (by decide) ?_
                  exact ih 0 τ8 _ _ _ hT hI (lv_sub hl [2, 0] rfl)
                · have hT := hT.2 hc
                  refine lv_iconst (v := 1) hx hb dX6_qTest_101 (by decide) ?_
                  refine lv_goto (tgt := 106) hx hb dX6_qTest_102 (by decide) ?_
                  refine lv_istore_n (lv' := [(1, .int 1), (2, .int r3), (0, .ref (ad 0))]) hx hb dX6_qTest_106 rfl hl (Nat.le_of_ble_eq_true rfl) rfl (fun ls hl => ?_)
                  refine lv_goto (tgt := 2) hx hb dX6_qTest_107 (by decide) ?_
                  exact ih 1 τ8 _ _ _ hT hI (lv_sub hl [2, 0] rfl)
            · have hT := hT.2 hc
              refine lv_aload_n hx hb dX6_qTest_58 rfl (lv_at hl 1 rfl) ?_
              refine lv_bipush (v := 12) hx hb dX6_qTest_59 (by decide) ?_
              refine lv_aload_n hx hb dX6_qTest_61 rfl (lv_at hl 1 rfl) ?_
              refine tg_2 hC hI dX6_qTest_62 ?_
              refine tc_qOpens hC hI hT ⟨Nat.le_of_ble_eq_true rfl, Nat.le_of_ble_eq_true rfl⟩ ⟨Nat.zero_le _, Nat.zero_le _⟩ hl.1 (Nat.le_of_ble_eq_true rfl) dX6_qTest_65 (fun τ10 H locs hT hI => ?_)
              refine lv_aload_n hx hb dX6_qTest_68 rfl (lv_at hl 1 rfl) ?_
              refine lv_aload_n hx hb dX6_qTest_69 rfl (lv_at hl 1 rfl) ?_
              refine tg_74 hC hI dX6_qTest_70 ?_
              refine tc_asks hC hI hT ⟨Nat.le_of_ble_eq_true rfl, Nat.le_of_ble_eq_true rfl⟩ ⟨Nat.zero_le _, Nat.zero_le _⟩ hl.1 (Nat.le_of_ble_eq_true rfl) dX6_qTest_73 (fun τ11 H locs hT hI => ?_)
              refine lv_goto (tgt := 2) hx hb dX6_qTest_76 (by decide) ?_
              exact ih x1 τ11 _ _ _ hT hI (lv_sub hl [1, 2] rfl)
          · have hT := hT.2 hc
            refine lv_aload_n hx hb dX6_qTest_24 rfl (lv_at hl 1 rfl) ?_
            refine lv_bipush (v := 25) hx hb dX6_qTest_25 (by decide) ?_
            refine lv_aload_n hx hb dX6_qTest_27 rfl (lv_at hl 1 rfl) ?_
            refine tg_2 hC hI dX6_qTest_28 ?_
            refine tc_qOpens hC hI hT ⟨Nat.le_of_ble_eq_true rfl, Nat.le_of_ble_eq_true rfl⟩ ⟨Nat.zero_le _, Nat.zero_le _⟩ hl.1 (Nat.le_of_ble_eq_true rfl) dX6_qTest_31 (fun τ12 H locs hT hI => ?_)
            refine lv_aload_n hx hb dX6_qTest_34 rfl (lv_at hl 1 rfl) ?_
            refine lv_dup hx hb dX6_qTest_35 rfl ?_
            refine tg_2 hC hI dX6_qTest_36 ?_
            refine lv_iconst (v := 1) hx hb dX6_qTest_39 (by decide) ?_
            refine lv_iadd hx hb dX6_qTest_40 ?_
            refine tp_2 hC hI hT dX6_qTest_41 (fun τ13 H locs hT hI => ?_)
            refine lv_goto (tgt := 2) hx hb dX6_qTest_44 (by decide) ?_
            exact ih x1 τ13 _ _ _ hT hI (lv_sub hl [1, 2] rfl)
  unfold T_qTest at hT
  refine lv_iconst (v := 1) hx hb dX6_qTest_0 (by decide) ?_
  refine lv_istore_n (lv' := [(1, .int 1), (0, .ref (ad 0))]) hx hb dX6_qTest_1 rfl hl (Nat.le_of_ble_eq_true rfl) rfl (fun ls hl => ?_)
  obtain ⟨n2, hT⟩ := hT
  exact w_2 n2 1 τ _ _ _ hT hI (lv_sub hl [1, 0] rfl)
theorem tc_qTest {p : Program} {l : Launch} {e : Env} {R : Room} {s : State} {m : MethodId} {args : Array Value} {below : List Frame} {meth : Method} {c : Code} {H : Heap} {locs : List Loc} {cells slots : Nat} {Q : State → Prop} {cc : ByteArray} {nL : Nat} {D : va_G} {dA : Nat → ClassId} {ad : Nat → Nat} {τ : Sto} {pc sz : Nat} {ls : Array Slot} {rest : List Value} {H0 : Heap} {K : Sto → Prop} (hC : tC p m c cc nL s args D dA ad) (hI : tI D dA ad sz H0 τ H locs) (hT : T_qTest τ K) (hR : 9 + 1 ≤ R.frames ∧ 8 + (3 + 11) + 186 ≤ R.locals) (hf : cells ≤ R.cells ∧ slots ≤ R.slots) (hsz : ls.size = nL) (hroom : (rest.map fun v => v.category).sum ≤ 8) (hdg : decode cc pc = .ok (.invokevirtual 343, 3)) (kk : ∀ (τ1 : Sto) (H1 : Heap) (locs1 : List Loc), K τ1 → tI D dA ad sz H0 τ1 H1 locs1 → W p l e R s m args below meth c H1 locs1 cells slots Q (F0 m (pc + 3) ls (rest))) : W p l e R s m args below meth c H locs cells slots Q (F0 m pc ls (.ref (ad 0) :: rest)) :=
  rg_callv (rg_runV hC.1 hC.2.1 hI.1 hI.2.1 tl_0 rfl (met_qTest l D dA ad hC.2.2 sz τ K hT) (lw_V q2100 q2102 qs78 q170 q2103) 0 (by decide +kernel) ⟨rfl, rfl⟩ hR rfl hsz rfl hroom hf hdg) hI.2.2 (fun τ1 H1 l1 hk hz hP hS => kk τ1 H1 l1 hk ⟨hP, hz, hS⟩)
set_option maxHeartbeats 4000000 in
set_option maxRecDepth 100000 in
theorem met_textTold (l : Launch) (D : va_G) (dA : Nat → ClassId) (ad : Nat → Nat) (hJ : rgJ twL ad) (sz : Nat) (τ : Sto) (x1 : Int32) (K : Sto → Prop) (hT : T_textTold τ x1 K) : Met l yX6_textTold (ws_ yX6_textTold cX6_textTold 3 (none)) ({ frames := 10, cells := 0, slots := 0, locals := 208 }) (va_Pc [.ref (ad 0), .int x1] (rgU D vwCl dA twL ad sz τ)) (va_Qv K (rgU D vwCl dA twL ad sz) (rgAd twL ad)) 0 0 (rgAd twL ad) := by
  refine tw_metv hJ (by decide) rfl (Nat.le_of_ble_eq_true rfl) ?_
  intro p e s m args below meth c Q hC hret hI ls hl
  have hx := hC.1.1
  have hb := hC.1.2.1
  have hl : lv_has ls 3 [(0, .ref (ad 0)), (1, .int x1)] := hl
  have w_80 : ∀ (x1 : Int32) (n : Nat) (x2 : Int32) (τ : Sto) (H : Heap) (locs : List Loc) (ls : Array Slot), T_textTold_80 K x1 n x2 τ → tI D dA ad sz s.heap τ H locs → lv_has ls 3 [(0, .ref (ad 0)), (1, .int x1), (2, .int x2)] → W p l e ({ frames := 10, cells := 0, slots := 0, locals := 208 }) s m args below meth c H locs 0 0 Q (F0 m 80 ls []) := by
    intro x1 n
    induction n with
    | zero => intro x2 τ H locs ls hT; exact hT.elim
    | succ n ih =>
      intro x2 τ H locs ls hT hI hl
      unfold T_textTold_80 at hT
      refine lv_iload_n hx hb dX6_textTold_80 rfl (lv_at hl 2 rfl) ?_
      refine lv_aload_n hx hb dX6_textTold_81 rfl (lv_at hl 0 rfl) ?_
      refine tg_92 hC hI dX6_textTold_82 ?_
      refine lv_icmp_ge (tgt := 119) hx hb dX6_textTold_85 (by decide) (fun hc => ?_) (fun hc => ?_)
      · have hT := hT.1 hc
        refine lv_aload_n hx hb dX6_textTold_119 rfl (lv_at hl 0 rfl) ?_
        refine tg_46 hC hI dX6_textTold_120 ?_
        refine lv_iload_n hx hb dX6_textTold_123 rfl (lv_at hl 1 rfl) ?_
        refine lv_aload_n hx hb dX6_textTold_124 rfl (lv_at hl 0 rfl) ?_
        refine tg_48 hC hI dX6_textTold_125 ?_
        refine tw_iast hC hI tl_47 hT dX6_textTold_128 (fun τ1 H locs hT hI => ?_)
        exact hret _ _ _ _ _ hT hI dX6_textTold_129
      · have hT := hT.2 hc
        refine lv_aload_n hx hb dX6_textTold_88 rfl (lv_at hl 0 rfl) ?_
        refine tg_47 hC hI dX6_textTold_89 ?_
        refine lv_aload_n hx hb dX6_textTold_92 rfl (lv_at hl 0 rfl) ?_
        refine tg_48 hC hI dX6_textTold_93 ?_
        refine lv_aload_n hx hb dX6_textTold_96 rfl (lv_at hl 0 rfl) ?_
        refine tg_91 hC hI dX6_textTold_97 ?_
        refine lv_iload_n hx hb dX6_textTold_100 rfl (lv_at hl 2 rfl) ?_
        refine tw_iald hC hI tl_92 hT dX6_textTold_101 (fun hT => ?_)
        refine tw_iast hC hI tl_48 hT dX6_textTold_102 (fun τ2 H locs hT hI => ?_)
        refine lv_aload_n hx hb dX6_textTold_103 rfl (lv_at hl 0 rfl) ?_
        refine lv_dup hx hb dX6_textTold_104 rfl ?_
        refine tg_48 hC hI dX6_textTold_105 ?_
        refine lv_iconst (v := 1) hx hb dX6_textTold_108 (by decide) ?_
        refine lv_iadd hx hb dX6_textTold_109 ?_
        refine tp_48 hC hI hT dX6_textTold_110 (fun τ3 H locs hT hI => ?_)
        refine lv_iinc (v := x2 + 1) (lv' := [(2, .int (x2 + 1)), (0, .ref (ad 0)), (1, .int x1)]) hx hb dX6_textTold_113 hl (k := 2) rfl rfl (Nat.le_of_ble_eq_true rfl) rfl (fun ls hl => ?_)
        refine lv_goto (tgt := 80) hx hb dX6_textTold_116 (by decide) ?_
        exact ih (x2 + 1) τ3 _ _ _ hT hI (lv_sub hl [1, 2, 0] rfl)
  have w_60 : ∀ (x1 : Int32) (τ : Sto) (H : Heap) (locs : List Loc) (ls : Array Slot), T_textTold_60 K x1 τ → tI D dA ad sz s.heap τ H locs → lv_has ls 3 [(0, .ref (ad 0)), (1, .int x1)] → W p l e ({ frames := 10, cells := 0, slots := 0, locals := 208 }) s m args below meth c H locs 0 0 Q (F0 m 60 ls []) := by
    intro x1 τ H locs ls hT hI hl
    unfold T_textTold_60 at hT
    refine lv_aload_n hx hb dX6_textTold_60 rfl (lv_at hl 0 rfl) ?_
    refine tg_5 hC hI dX6_textTold_61 ?_
    refine lv_if_eq (tgt := 68) hx hb dX6_textTold_64 (by decide) (fun hc => ?_) (fun hc => ?_)
    · have hT := hT.1 hc
      refine lv_aload_n hx hb dX6_textTold_68 rfl (lv_at hl 0 rfl) ?_
      refine tg_45 hC hI dX6_textTold_69 ?_
      refine lv_iload_n hx hb dX6_textTold_72 rfl (lv_at hl 1 rfl) ?_
      refine lv_aload_n hx hb dX6_textTold_73 rfl (lv_at hl 0 rfl) ?_
      refine tg_48 hC hI dX6_textTold_74 ?_
      refine tw_iast hC hI tl_46 hT dX6_textTold_77 (fun τ4 H locs hT hI => ?_)
      refine lv_iconst (v := 0) hx hb dX6_textTold_78 (by decide) ?_
      refine lv_istore_n (lv' := [(2, .int 0), (0, .ref (ad 0)), (1, .int x1)]) hx hb dX6_textTold_79 rfl hl (Nat.le_of_ble_eq_true rfl) rfl (fun ls hl => ?_)
      obtain ⟨n80, hT⟩ := hT
      exact w_80 x1 n80 0 τ4 _ _ _ hT hI (lv_sub hl [1, 2, 0] rfl)
    · have hT := hT.2 hc
      exact hret _ _ _ _ _ hT hI dX6_textTold_67
  unfold T_textTold at hT
  refine lv_aload_n hx hb dX6_textTold_0 rfl (lv_at hl 0 rfl) ?_
  refine tg_5 hC hI dX6_textTold_1 ?_
  refine lv_if_eq (tgt := 8) hx hb dX6_textTold_4 (by decide) (fun hc => ?_) (fun hc => ?_)
  · have hT := hT.1 hc
    refine lv_aload_n hx hb dX6_textTold_8 rfl (lv_at hl 0 rfl) ?_
    refine lv_iload_n hx hb dX6_textTold_9 rfl (lv_at hl 1 rfl) ?_
    refine tc_kindBy hC hI hT ⟨Nat.le_of_ble_eq_true rfl, Nat.le_of_ble_eq_true rfl⟩ ⟨Nat.zero_le _, Nat.zero_le _⟩ hl.1 (Nat.le_of_ble_eq_true rfl) dX6_textTold_10 (fun r6 τ5 H locs hT hI => ?_)
    refine tp_50 hC hI hT dX6_textTold_13 (fun τ7 H locs hT hI => ?_)
    refine lv_aload_n hx hb dX6_textTold_16 rfl (lv_at hl 0 rfl) ?_
    refine lv_iconst (v := 0) hx hb dX6_textTold_17 (by decide) ?_
    refine tp_92 hC hI hT dX6_textTold_18 (fun τ8 H locs hT hI => ?_)
    refine lv_aload_n hx hb dX6_textTold_21 rfl (lv_at hl 0 rfl) ?_
    refine lv_iconst (v := 0) hx hb dX6_textTold_22 (by decide) ?_
    refine tp_94 hC hI hT dX6_textTold_23 (fun τ9 H locs hT hI => ?_)
    refine lv_aload_n hx hb dX6_textTold_26 rfl (lv_at hl 0 rfl) ?_
    refine lv_iconst (v := 0) hx hb dX6_textTold_27 (by decide) ?_
    refine tp_95 hC hI hT dX6_textTold_28 (fun τ10 H locs hT hI => ?_)
    refine lv_aload_n hx hb dX6_textTold_31 rfl (lv_at hl 0 rfl) ?_
    refine lv_iconst (v := 0) hx hb dX6_textTold_32 (by decide) ?_
    refine tp_96 hC hI hT dX6_textTold_33 (fun τ11 H locs hT hI => ?_)
    refine lv_aload_n hx hb dX6_textTold_36 rfl (lv_at hl 0 rfl) ?_
    refine tg_50 hC hI dX6_textTold_37 ?_
    refine lv_iconst (v := 1) hx hb dX6_textTold_40 (by decide) ?_
    refine lv_icmp_eq (tgt := 49) hx hb dX6_textTold_41 (by decide) (fun hc => ?_) (fun hc => ?_)
    · have hT := hT.1 hc
      refine lv_aload_n hx hb dX6_textTold_49 rfl (lv_at hl 0 rfl) ?_
      refine tc_qTest hC hI hT ⟨Nat.le_of_ble_eq_true rfl, Nat.le_of_ble_eq_true rfl⟩ ⟨Nat.zero_le _, Nat.zero_le _⟩ hl.1 (Nat.le_of_ble_eq_true rfl) dX6_textTold_50 (fun τ12 H locs hT hI => ?_)
      refine lv_goto (tgt := 60) hx hb dX6_textTold_53 (by decide) ?_
      exact w_60 x1 τ12 _ _ _ hT hI (lv_sub hl [0, 1] rfl)
    · have hT := hT.2 hc
      refine lv_iload_n hx hb dX6_textTold_44 rfl (lv_at hl 1 rfl) ?_
      refine lv_iconst (v := 1) hx hb dX6_textTold_45 (by decide) ?_
      refine lv_icmp_ne (tgt := 56) hx hb dX6_textTold_46 (by decide) (fun hc => ?_) (fun hc => ?_)
      · have hT := hT.1 hc
        refine lv_aload_n hx hb dX6_textTold_56 rfl (lv_at hl 0 rfl) ?_
        refine tc_qSums hC hI hT ⟨Nat.le_of_ble_eq_true rfl, Nat.le_of_ble_eq_true rfl⟩ ⟨Nat.zero_le _, Nat.zero_le _⟩ hl.1 (Nat.le_of_ble_eq_true rfl) dX6_textTold_57 (fun τ13 H locs hT hI => ?_)
        exact w_60 x1 τ13 _ _ _ hT hI (lv_sub hl [0, 1] rfl)
      · have hT := hT.2 hc
        refine lv_aload_n hx hb dX6_textTold_49 rfl (lv_at hl 0 rfl) ?_
        refine tc_qTest hC hI hT ⟨Nat.le_of_ble_eq_true rfl, Nat.le_of_ble_eq_true rfl⟩ ⟨Nat.zero_le _, Nat.zero_le _⟩ hl.1 (Nat.le_of_ble_eq_true rfl) dX6_textTold_50 (fun τ14 H locs hT hI => ?_)
        refine lv_goto (tgt := 60) hx hb dX6_textTold_53 (by decide) ?_
        exact w_60 x1 τ14 _ _ _ hT hI (lv_sub hl [0, 1] rfl)
  · have hT := hT.2 hc
    exact hret _ _ _ _ _ hT hI dX6_textTold_7
theorem tc_textTold {p : Program} {l : Launch} {e : Env} {R : Room} {s : State} {m : MethodId} {args : Array Value} {below : List Frame} {meth : Method} {c : Code} {H : Heap} {locs : List Loc} {cells slots : Nat} {Q : State → Prop} {cc : ByteArray} {nL : Nat} {D : va_G} {dA : Nat → ClassId} {ad : Nat → Nat} {τ : Sto} {pc sz : Nat} {ls : Array Slot} {rest : List Value} {H0 : Heap} {x1 : Int32} {K : Sto → Prop} (hC : tC p m c cc nL s args D dA ad) (hI : tI D dA ad sz H0 τ H locs) (hT : T_textTold τ x1 K) (hR : 10 + 1 ≤ R.frames ∧ 8 + (3 + 11) + 208 ≤ R.locals) (hf : cells ≤ R.cells ∧ slots ≤ R.slots) (hsz : ls.size = nL) (hroom : (rest.map fun v => v.category).sum ≤ 8) (hdg : decode cc pc = .ok (.invokevirtual 352, 3)) (kk : ∀ (τ1 : Sto) (H1 : Heap) (locs1 : List Loc), K τ1 → tI D dA ad sz H0 τ1 H1 locs1 → W p l e R s m args below meth c H1 locs1 cells slots Q (F0 m (pc + 3) ls (rest))) : W p l e R s m args below meth c H locs cells slots Q (F0 m pc ls (.int x1 :: .ref (ad 0) :: rest)) :=
  rg_callv (rg_runV hC.1 hC.2.1 hI.1 hI.2.1 tl_0 rfl (met_textTold l D dA ad hC.2.2 sz τ x1 K hT) (lw_V q2093 q2095 qs77 q170 q2096) 1 (by decide +kernel) ⟨rfl, rfl⟩ hR rfl hsz rfl hroom hf hdg) hI.2.2 (fun τ1 H1 l1 hk hz hP hS => kk τ1 H1 l1 hk ⟨hP, hz, hS⟩)
