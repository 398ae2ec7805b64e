set_option maxHeartbeats 4000000 in
set_option maxRecDepth 100000 in
theorem met_trialTold (l : Launch) (D : va_G) (dA : Nat → ClassId) (ad : Nat → Nat) (hJ : rgJ twL ad) (sz : Nat) (τ : Sto) (x1 : Int32) (K : Sto → Prop) (hT : T_trialTold τ x1 K) : Met l yX6_trialTold (ws_ yX6_trialTold cX6_trialTold 4 (none)) ({ frames := 11, cells := 0, slots := 0, locals := 230 }) (va_Pc [.ref (ad 0), .int x1] (rgU D vwCl dA twL ad sz τ)) (va_Qv K (rgU D vwCl dA twL ad sz) (rgAd twL ad)) 0 0 (rgAd twL ad) := by
  refine tw_metv hJ (by decide) rfl (Nat.le_of_ble_eq_true rfl) ?_
  intro p e s m args below meth c Q hC hret hI ls hl
  have hx := hC.1.1
  have hb := hC.1.2.1
  have hl : lv_has ls 4 [(0, .ref (ad 0)), (1, .int x1)] := hl
  unfold T_trialTold at hT
  refine lv_aload_n hx hb dX6_trialTold_0 rfl (lv_at hl 0 rfl) ?_
  refine lv_iconst (v := 2) hx hb dX6_trialTold_1 (by decide) ?_
  refine lv_iconst (v := 5) hx hb dX6_trialTold_2 (by decide) ?_
  refine lv_iload_n hx hb dX6_trialTold_3 rfl (lv_at hl 1 rfl) ?_
  refine tc_isFull hC hI hT ⟨Nat.le_of_ble_eq_true rfl, Nat.le_of_ble_eq_true rfl⟩ ⟨Nat.zero_le _, Nat.zero_le _⟩ hl.1 (Nat.le_of_ble_eq_true rfl) dX6_trialTold_4 (fun r2 τ1 H locs hT hI => ?_)
  refine lv_if_eq (tgt := 11) hx hb dX6_trialTold_7 (by decide) (fun hc => ?_) (fun hc => ?_)
  · have hT := hT.1 hc
    refine lv_aload_n hx hb dX6_trialTold_11 rfl (lv_at hl 0 rfl) ?_
    refine tc_newName hC hI hT ⟨Nat.le_of_ble_eq_true rfl, Nat.le_of_ble_eq_true rfl⟩ ⟨Nat.zero_le _, Nat.zero_le _⟩ hl.1 (Nat.le_of_ble_eq_true rfl) dX6_trialTold_12 (fun r4 τ3 H locs hT hI => ?_)
    refine lv_lstore_n (lv' := [(2, .long r4), (0, .ref (ad 0)), (1, .int x1)]) hx hb dX6_trialTold_15 rfl hl (Nat.le_of_ble_eq_true rfl) rfl (fun ls hl => ?_)
    refine lv_aload_n hx hb dX6_trialTold_16 rfl (lv_at hl 1 rfl) ?_
    refine lv_aload_n hx hb dX6_trialTold_17 rfl (lv_at hl 1 rfl) ?_
    refine tg_18 hC hI dX6_trialTold_18 ?_
    refine tc_asks hC hI hT ⟨Nat.le_of_ble_eq_true rfl, Nat.le_of_ble_eq_true rfl⟩ ⟨Nat.zero_le _, Nat.zero_le _⟩ hl.1 (Nat.le_of_ble_eq_true rfl) dX6_trialTold_21 (fun τ5 H locs hT hI => ?_)
    refine lv_aload_n hx hb dX6_trialTold_24 rfl (lv_at hl 1 rfl) ?_
    refine lv_iconst (v := 5) hx hb dX6_trialTold_25 (by decide) ?_
    refine lv_aload_n hx hb dX6_trialTold_26 rfl (lv_at hl 1 rfl) ?_
    refine tg_39 hC hI dX6_trialTold_27 ?_
    refine lv_iconst (v := 2) hx hb dX6_trialTold_30 (by decide) ?_
    refine tw_iald hC hI tl_40 hT dX6_trialTold_31 (fun hT => ?_)
    refine lv_iadd hx hb dX6_trialTold_32 ?_
    refine tc_textTold hC hI hT ⟨Nat.le_of_ble_eq_true rfl, Nat.le_of_ble_eq_true rfl⟩ ⟨Nat.zero_le _, Nat.zero_le _⟩ hl.1 (Nat.le_of_ble_eq_true rfl) dX6_trialTold_33 (fun τ6 H locs hT hI => ?_)
    refine lv_aload_n hx hb dX6_trialTold_36 rfl (lv_at hl 1 rfl) ?_
    refine tg_5 hC hI dX6_trialTold_37 ?_
    refine lv_if_ne (tgt := 50) hx hb dX6_trialTold_40 (by decide) (fun hc => ?_) (fun hc => ?_)
    · have hT := hT.1 hc
      exact hret _ _ _ _ _ hT hI dX6_trialTold_50
    · have hT := hT.2 hc
      refine lv_aload_n hx hb dX6_trialTold_43 rfl (lv_at hl 1 rfl) ?_
      refine lv_iconst (v := 2) hx hb dX6_trialTold_44 (by decide) ?_
      refine lv_lload_n hx hb dX6_trialTold_45 rfl (lv_at hl 0 rfl) ?_
      refine tc_adds hC hI hT ⟨Nat.le_of_ble_eq_true rfl, Nat.le_of_ble_eq_true rfl⟩ ⟨Nat.zero_le _, Nat.zero_le _⟩ hl.1 (Nat.le_of_ble_eq_true rfl) dX6_trialTold_46 (fun r8 τ7 H locs hT hI => ?_)
      refine lv_pop hx hb dX6_trialTold_49 rfl ?_
      exact hret _ _ _ _ _ hT hI dX6_trialTold_50
  · have hT := hT.2 hc
    exact hret _ _ _ _ _ hT hI dX6_trialTold_10
theorem tc_trialTold {p : Program} {l : Launch} {e : Env} {R : Room} {s : State} {m : MethodId} {args : Array Value} {below : List Frame} {meth : Method} {c : Code} {H : Heap} {locs : List Loc} {cells slots : Nat} {Q : State → Prop} {cc : ByteArray} {nL : Nat} {D : va_G} {dA : Nat → ClassId} {ad : Nat → Nat} {τ : Sto} {pc sz : Nat} {ls : Array Slot} {rest : List Value} {H0 : Heap} {x1 : Int32} {K : Sto → Prop} (hC : tC p m c cc nL s args D dA ad) (hI : tI D dA ad sz H0 τ H locs) (hT : T_trialTold τ x1 K) (hR : 11 + 1 ≤ R.frames ∧ 8 + (4 + 11) + 230 ≤ R.locals) (hf : cells ≤ R.cells ∧ slots ≤ R.slots) (hsz : ls.size = nL) (hroom : (rest.map fun v => v.category).sum ≤ 8) (hdg : decode cc pc = .ok (.invokevirtual 365, 3)) (kk : ∀ (τ1 : Sto) (H1 : Heap) (locs1 : List Loc), K τ1 → tI D dA ad sz H0 τ1 H1 locs1 → W p l e R s m args below meth c H1 locs1 cells slots Q (F0 m (pc + 3) ls (rest))) : W p l e R s m args below meth c H locs cells slots Q (F0 m pc ls (.int x1 :: .ref (ad 0) :: rest)) :=
  rg_callv (rg_runV hC.1 hC.2.1 hI.1 hI.2.1 tl_0 rfl (met_trialTold l D dA ad hC.2.2 sz τ x1 K hT) (lw_V q2089 q2091 qs76 q170 q2092) 1 (by decide +kernel) ⟨rfl, rfl⟩ hR rfl hsz rfl hroom hf hdg) hI.2.2 (fun τ1 H1 l1 hk hz hP hS => kk τ1 H1 l1 hk ⟨hP, hz, hS⟩)
set_option maxHeartbeats 4000000 in
set_option maxRecDepth 100000 in
theorem met_codesTold (l : Launch) (D : va_G) (dA : Nat → ClassId) (ad : Nat → Nat) (hJ : rgJ twL ad) (sz : Nat) (τ : Sto) (x1 : Int32) (x2 : Int32) (K : Sto → Prop) (hT : T_codesTold τ x1 x2 K) : Met l yX6_codesTold (ws_ yX6_codesTold cX6_codesTold 3 (none)) ({ frames := 11, cells := 0, slots := 0, locals := 230 }) (va_Pc [.ref (ad 0), .int x1, .int x2] (rgU D vwCl dA twL ad sz τ)) (va_Qv K (rgU D vwCl dA twL ad sz) (rgAd twL ad)) 0 0 (rgAd twL ad) := by
  refine tw_metv hJ (by decide) rfl (Nat.le_of_ble_eq_true rfl) ?_
  intro p e s m args below meth c Q hC hret hI ls hl
  have hx := hC.1.1
  have hb := hC.1.2.1
  have hl : lv_has ls 3 [(0, .ref (ad 0)), (1, .int x1), (2, .int x2)] := hl
  unfold T_codesTold at hT
  refine lv_aload_n hx hb dX6_codesTold_0 rfl (lv_at hl 0 rfl) ?_
  refine tg_5 hC hI dX6_codesTold_1 ?_
  refine lv_if_ne (tgt := 23) hx hb dX6_codesTold_4 (by decide) (fun hc => ?_) (fun hc => ?_)
  · have hT := hT.1 hc
    refine lv_aload_n hx hb dX6_codesTold_23 rfl (lv_at hl 0 rfl) ?_
    refine lv_iload_n hx hb dX6_codesTold_24 rfl (lv_at hl 1 rfl) ?_
    refine tc_textTold hC hI hT ⟨Nat.le_of_ble_eq_true rfl, Nat.le_of_ble_eq_true rfl⟩ ⟨Nat.zero_le _, Nat.zero_le _⟩ hl.1 (Nat.le_of_ble_eq_true rfl) dX6_codesTold_25 (fun τ1 H locs hT hI => ?_)
    exact hret _ _ _ _ _ hT hI dX6_codesTold_28
  · have hT := hT.2 hc
    refine lv_aload_n hx hb dX6_codesTold_7 rfl (lv_at hl 0 rfl) ?_
    refine tg_45 hC hI dX6_codesTold_8 ?_
    refine lv_iload_n hx hb dX6_codesTold_11 rfl (lv_at hl 1 rfl) ?_
    refine tw_iald hC hI tl_46 hT dX6_codesTold_12 (fun hT => ?_)
    refine lv_iconst (v := -1) hx hb dX6_codesTold_13 (by decide) ?_
    refine lv_icmp_eq (tgt := 23) hx hb dX6_codesTold_14 (by decide) (fun hc => ?_) (fun hc => ?_)
    · have hT := hT.1 hc
      refine lv_aload_n hx hb dX6_codesTold_23 rfl (lv_at hl 0 rfl) ?_
      refine lv_iload_n hx hb dX6_codesTold_24 rfl (lv_at hl 1 rfl) ?_
      refine tc_textTold hC hI hT ⟨Nat.le_of_ble_eq_true rfl, Nat.le_of_ble_eq_true rfl⟩ ⟨Nat.zero_le _, Nat.zero_le _⟩ hl.1 (Nat.le_of_ble_eq_true rfl) dX6_codesTold_25 (fun τ2 H locs hT hI => ?_)
      exact hret _ _ _ _ _ hT hI dX6_codesTold_28
    · have hT := hT.2 hc
      refine lv_aload_n hx hb dX6_codesTold_17 rfl (lv_at hl 0 rfl) ?_
      refine lv_iconst (v := 5) hx hb dX6_codesTold_18 (by decide) ?_
      refine lv_iload_n hx hb dX6_codesTold_19 rfl (lv_at hl 2 rfl) ?_
      refine tc_fail hC hI hT ⟨Nat.le_of_ble_eq_true rfl, Nat.le_of_ble_eq_true rfl⟩ ⟨Nat.zero_le _, Nat.zero_le _⟩ hl.1 (Nat.le_of_ble_eq_true rfl) dX6_codesTold_20 (fun τ3 H locs hT hI => ?_)
      refine lv_aload_n hx hb dX6_codesTold_23 rfl (lv_at hl 0 rfl) ?_
      refine lv_iload_n hx hb dX6_codesTold_24 rfl (lv_at hl 1 rfl) ?_
      refine tc_textTold hC hI hT ⟨Nat.le_of_ble_eq_true rfl, Nat.le_of_ble_eq_true rfl⟩ ⟨Nat.zero_le _, Nat.zero_le _⟩ hl.1 (Nat.le_of_ble_eq_true rfl) dX6_codesTold_25 (fun τ4 H locs hT hI => ?_)
      exact hret _ _ _ _ _ hT hI dX6_codesTold_28
theorem tc_codesTold {p : Program} {l : Launch} {e : Env} {R : Room} {s : State} {m : MethodId} {args : Array Value} {below : List Frame} {meth : Method} {c : Code} {H : Heap} {locs : List Loc} {cells slots : Nat} {Q : State → Prop} {cc : ByteArray} {nL : Nat} {D : va_G} {dA : Nat → ClassId} {ad : Nat → Nat} {τ : Sto} {pc sz : Nat} {ls : Array Slot} {rest : List Value} {H0 : Heap} {x1 : Int32} {x2 : Int32} {K : Sto → Prop} (hC : tC p m c cc nL s args D dA ad) (hI : tI D dA ad sz H0 τ H locs) (hT : T_codesTold τ x1 x2 K) (hR : 11 + 1 ≤ R.frames ∧ 8 + (3 + 11) + 230 ≤ R.locals) (hf : cells ≤ R.cells ∧ slots ≤ R.slots) (hsz : ls.size = nL) (hroom : (rest.map fun v => v.category).sum ≤ 8) (hdg : decode cc pc = .ok (.invokevirtual 368, 3)) (kk : ∀ (τ1 : Sto) (H1 : Heap) (locs1 : List Loc), K τ1 → tI D dA ad sz H0 τ1 H1 locs1 → W p l e R s m args below meth c H1 locs1 cells slots Q (F0 m (pc + 3) ls (rest))) : W p l e R s m args below meth c H locs cells slots Q (F0 m pc ls (.int x2 :: .int x1 :: .ref (ad 0) :: rest)) :=
  rg_callv (rg_runV hC.1 hC.2.1 hI.1 hI.2.1 tl_0 rfl (met_codesTold l D dA ad hC.2.2 sz τ x1 x2 K hT) (lw_V q2187 q2189 qs99 q170 q2190) 2 (by decide +kernel) ⟨rfl, rfl⟩ hR rfl hsz rfl hroom hf hdg) hI.2.2 (fun τ1 H1 l1 hk hz hP hS => kk τ1 H1 l1 hk ⟨hP, hz, hS⟩)
set_option maxHeartbeats 4000000 in
set_option maxRecDepth 100000 in
theorem met_statementTold (l : Launch) (D : va_G) (dA : Nat → ClassId) (ad : Nat → Nat) (hJ : rgJ twL ad) (sz : Nat) (τ : Sto) (K : Sto → Prop) (hT : T_statementTold τ K) : Met l yX6_statementTold (ws_ yX6_statementTold cX6_statementTold 2 (none)) ({ frames := 12, cells := 0, slots := 0, locals := 253 }) (va_Pc [.ref (ad 0)] (rgU D vwCl dA twL ad sz τ)) (va_Qv K (rgU D vwCl dA twL ad sz) (rgAd twL ad)) 0 0 (rgAd twL ad) := by
  refine tw_metv hJ (by decide) rfl (Nat.le_of_ble_eq_true rfl) ?_
  intro p e s m args below meth c Q hC hret hI ls hl
  have hx := hC.1.1
  have hb := hC.1.2.1
  have hl : lv_has ls 2 [(0, .ref (ad 0))] := hl
  have w_197 : ∀ (τ : Sto) (H : Heap) (locs : List Loc) (ls : Array Slot), T_statementTold_197 K τ → tI D dA ad sz s.heap τ H locs → lv_has ls 2 [(0, .ref (ad 0))] → W p l e ({ frames := 12, cells := 0, slots := 0, locals := 253 }) s m args below meth c H locs 0 0 Q (F0 m 197 ls []) := by
    intro τ H locs ls hT hI hl
    unfold T_statementTold_197 at hT
    refine lv_aload_n hx hb dX6_statementTold_197 rfl (lv_at hl 0 rfl) ?_
    refine lv_bipush (v := 59) hx hb dX6_statementTold_198 (by decide) ?_
    refine tc_asksSign hC hI hT ⟨Nat.le_of_ble_eq_true rfl, Nat.le_of_ble_eq_true rfl⟩ ⟨Nat.zero_le _, Nat.zero_le _⟩ hl.1 (Nat.le_of_ble_eq_true rfl) dX6_statementTold_200 (fun τ1 H locs hT hI => ?_)
    refine lv_aload_n hx hb dX6_statementTold_203 rfl (lv_at hl 0 rfl) ?_
    refine lv_dup hx hb dX6_statementTold_204 rfl ?_
    refine tg_49 hC hI dX6_statementTold_205 ?_
    refine lv_iconst (v := 1) hx hb dX6_statementTold_208 (by decide) ?_
    refine lv_iadd hx hb dX6_statementTold_209 ?_
    refine tp_49 hC hI hT dX6_statementTold_210 (fun τ2 H locs hT hI => ?_)
    exact hret _ _ _ _ _ hT hI dX6_statementTold_213
  unfold T_statementTold at hT
  refine lv_aload_n hx hb dX6_statementTold_0 rfl (lv_at hl 0 rfl) ?_
  refine tg_2 hC hI dX6_statementTold_1 ?_
  refine lv_istore_n (lv' := [(1, .int (τ.1 0 2)), (0, .ref (ad 0))]) hx hb dX6_statementTold_4 rfl hl (Nat.le_of_ble_eq_true rfl) rfl (fun ls hl => ?_)
  refine lv_aload_n hx hb dX6_statementTold_5 rfl (lv_at hl 1 rfl) ?_
  refine tg_49 hC hI dX6_statementTold_6 ?_
  refine lv_bipush (v := 80) hx hb dX6_statementTold_9 (by decide) ?_
  refine lv_icmp_ne (tgt := 21) hx hb dX6_statementTold_11 (by decide) (fun hc => ?_) (fun hc => ?_)
  · have hT := hT.1 hc
    refine lv_aload_n hx hb dX6_statementTold_21 rfl (lv_at hl 1 rfl) ?_
    refine lv_aload_n hx hb dX6_statementTold_22 rfl (lv_at hl 1 rfl) ?_
    refine tg_10 hC hI dX6_statementTold_23 ?_
    refine tc_eats hC hI hT ⟨Nat.le_of_ble_eq_true rfl, Nat.le_of_ble_eq_true rfl⟩ ⟨Nat.zero_le _, Nat.zero_le _⟩ hl.1 (Nat.le_of_ble_eq_true rfl) dX6_statementTold_26 (fun r4 τ3 H locs hT hI => ?_)
    refine lv_if_eq (tgt := 40) hx hb dX6_statementTold_29 (by decide) (fun hc => ?_) (fun hc => ?_)
    · have hT := hT.1 hc
      refine lv_aload_n hx hb dX6_statementTold_40 rfl (lv_at hl 1 rfl) ?_
      refine lv_aload_n hx hb dX6_statementTold_41 rfl (lv_at hl 1 rfl) ?_
      refine tg_14 hC hI dX6_statementTold_42 ?_
      refine tc_eats hC hI hT ⟨Nat.le_of_ble_eq_true rfl, Nat.le_of_ble_eq_true rfl⟩ ⟨Nat.zero_le _, Nat.zero_le _⟩ hl.1 (Nat.le_of_ble_eq_true rfl) dX6_statementTold_45 (fun r6 τ5 H locs hT hI => ?_)
      refine lv_if_eq (tgt := 59) hx hb dX6_statementTold_48 (by decide) (fun hc => ?_) (fun hc => ?_)
      · have hT := hT.1 hc
        refine lv_aload_n hx hb dX6_statementTold_59 rfl (lv_at hl 1 rfl) ?_
        refine lv_aload_n hx hb dX6_statementTold_60 rfl (lv_at hl 1 rfl) ?_
        refine tg_17 hC hI dX6_statementTold_61 ?_
        refine tc_eats hC hI hT ⟨Nat.le_of_ble_eq_true rfl, Nat.le_of_ble_eq_true rfl⟩ ⟨Nat.zero_le _, Nat.zero_le _⟩ hl.1 (Nat.le_of_ble_eq_true rfl) dX6_statementTold_64 (fun r8 τ7 H locs hT hI => ?_)
        refine lv_if_eq (tgt := 78) hx hb dX6_statementTold_67 (by decide) (fun hc => ?_) (fun hc => ?_)
        · have hT := hT.1 hc
          refine lv_aload_n hx hb dX6_statementTold_78 rfl (lv_at hl 1 rfl) ?_
          refine lv_aload_n hx hb dX6_statementTold_79 rfl (lv_at hl 1 rfl) ?_
          refine tg_19 hC hI dX6_statementTold_80 ?_
          refine tc_eats hC hI hT ⟨Nat.le_of_ble_eq_true rfl, Nat.le_of_ble_eq_true rfl⟩ ⟨Nat.zero_le _, Nat.zero_le _⟩ hl.1 (Nat.le_of_ble_eq_true rfl) dX6_statementTold_83 (fun r10 τ9 H locs hT hI => ?_)
          refine lv_if_eq (tgt := 98) hx hb dX6_statementTold_86 (by decide) (fun hc => ?_) (fun hc => ?_)
          · have hT := hT.1 hc
            refine lv_aload_n hx hb dX6_statementTold_98 rfl (lv_at hl 1 rfl) ?_
            refine lv_aload_n hx hb dX6_statementTold_99 rfl (lv_at hl 1 rfl) ?_
            refine tg_20 hC hI dX6_statementTold_100 ?_
            refine tc_eats hC hI hT ⟨Nat.le_of_ble_eq_true rfl, Nat.le_of_ble_eq_true rfl⟩ ⟨Nat.zero_le _, Nat.zero_le _⟩ hl.1 (Nat.le_of_ble_eq_true rfl) dX6_statementTold_103 (fun r12 τ11 H locs hT hI => ?_)
            refine lv_if_eq (tgt := 118) hx hb dX6_statementTold_106 (by decide) (fun hc => ?_) (fun hc => ?_)
            · have hT := hT.1 hc
              refine lv_aload_n hx hb dX6_statementTold_118 rfl (lv_at hl 1 rfl) ?_
              refine lv_aload_n hx hb dX6_statementTold_119 rfl (lv_at hl 1 rfl) ?_
              refine tg_21 hC hI dX6_statementTold_120 ?_
              refine tc_eats hC hI hT ⟨Nat.le_of_ble_eq_true rfl, Nat.le_of_ble_eq_true rfl⟩ ⟨Nat.zero_le _, Nat.zero_le _⟩ hl.1 (Nat.le_of_ble_eq_true rfl) dX6_statementTold_123 (fun r14 τ13 H locs hT hI => ?_)
              refine lv_if_eq (tgt := 138) hx hb dX6_statementTold_126 (by decide) (fun hc => ?_) (fun hc => ?_)
              · have hT := hT.1 hc
                refine lv_aload_n hx hb dX6_statementTold_138 rfl (lv_at hl 1 rfl) ?_
                refine lv_aload_n hx hb dX6_statementTold_139 rfl (lv_at hl 1 rfl) ?_
                refine tg_22 hC hI dX6_statementTold_140 ?_
                refine tc_eats hC hI hT ⟨Nat.le_of_ble_eq_true rfl, Nat.le_of_ble_eq_true rfl⟩ ⟨Nat.zero_le _, Nat.zero_le _⟩ hl.1 (Nat.le_of_ble_eq_true rfl) dX6_statementTold_143 (fun r16 τ15 H locs hT hI => ?_)
                refine lv_if_eq (tgt := 158) hx hb dX6_statementTold_146 (by decide) (fun hc => ?_) (fun hc => ?_)
                · have hT := hT.1 hc
                  refine lv_aload_n hx hb dX6_statementTold_158 rfl (lv_at hl 1 rfl) ?_
                  refine lv_aload_n hx hb dX6_statementTold_159 rfl (lv_at hl 1 rfl) ?_
                  refine tg_23 hC hI dX6_statementTold_160 ?_
                  refine tc_eats hC hI hT ⟨Nat.le_of_ble_eq_true rfl, Nat.le_of_ble_eq_true rfl⟩ ⟨Nat.zero_le _, Nat.zero_le _⟩ hl.1 (Nat.le_of_ble_eq_true rfl) dX6_statementTold_163 (fun r18 τ17 H locs hT hI => ?_)
                  refine lv_if_eq (tgt := 178) hx hb dX6_statementTold_166 (by decide) (fun hc => ?_) (fun hc => ?_)
                  · have hT := hT.1 hc
                    refine lv_aload_n hx hb dX6_statementTold_178 rfl (lv_at hl 1 rfl) ?_
                    refine lv_aload_n hx hb dX6_statementTold_179 rfl (lv_at hl 1 rfl) ?_
                    refine tg_24 hC hI dX6_statementTold_180 ?_
                    refine tc_asks hC hI hT ⟨Nat.le_of_ble_eq_true rfl, Nat.le_of_ble_eq_true rfl⟩ ⟨Nat.zero_le _, Nat.zero_le _⟩ hl.1 (Nat.le_of_ble_eq_true rfl) dX6_statementTold_183 (fun τ19 H locs hT hI => ?_)
                    refine lv_aload_n hx hb dX6_statementTold_186 rfl (lv_at hl 1 rfl) ?_
                    refine lv_aload_n hx hb dX6_statementTold_187 rfl (lv_at hl 1 rfl) ?_
                    refine lv_iconst (v := 0) hx hb dX6_statementTold_188 (by decide) ?_
                    refine lv_bipush (v := 100) hx hb dX6_statementTold_189 (by decide) ?_
                    refine tc_number hC hI hT ⟨Nat.le_of_ble_eq_true rfl, Nat.le_of_ble_eq_true rfl⟩ ⟨Nat.zero_le _, Nat.zero_le _⟩ hl.1 (Nat.le_of_ble_eq_true rfl) dX6_statementTold_191 (fun r21 τ20 H locs hT hI => ?_)
                    refine tp_43 hC hI hT dX6_statementTold_194 (fun τ22 H locs hT hI => ?_)
                    exact w_197 τ22 _ _ _ hT hI (lv_sub hl [1] rfl)
                  · have hT := hT.2 hc
                    refine lv_aload_n hx hb dX6_statementTold_169 rfl (lv_at hl 1 rfl) ?_
                    refine lv_iconst (v := 4) hx hb dX6_statementTold_170 (by decide) ?_
                    refine lv_iload_n hx hb dX6_statementTold_171 rfl (lv_at hl 0 rfl) ?_
                    refine tc_codesTold hC hI hT ⟨Nat.le_of_ble_eq_true rfl, Nat.le_of_ble_eq_true rfl⟩ ⟨Nat.zero_le _, Nat.zero_le _⟩ hl.1 (Nat.le_of_ble_eq_true rfl) dX6_statementTold_172 (fun τ23 H locs hT hI => ?_)
                    refine lv_goto (tgt := 197) hx hb dX6_statementTold_175 (by decide) ?_
                    exact w_197 τ23 _ _ _ hT hI (lv_sub hl [1] rfl)
                · have hT := hT.2 hc
                  refine lv_aload_n hx hb dX6_statementTold_149 rfl (lv_at hl 1 rfl) ?_
                  refine lv_iconst (v := 3) hx hb dX6_statementTold_150 (by decide) ?_
                  refine lv_iload_n hx hb dX6_statementTold_151 rfl (lv_at hl 0 rfl) ?_
                  refine tc_codesTold hC hI hT ⟨Nat.le_of_ble_eq_true rfl, Nat.le_of_ble_eq_true rfl⟩ ⟨Nat.zero_le _, Nat.zero_le _⟩ hl.1 (Nat.le_of_ble_eq_true rfl) dX6_statementTold_152 (fun τ24 H locs hT hI => ?_)
                  refine lv_goto (tgt := 197) hx hb dX6_statementTold_155 (by decide) ?_
                  exact w_197 τ24 _ _ _ hT hI (lv_sub hl [1] rfl)
              · have hT := hT.2 hc
                refine lv_aload_n hx hb dX6_statementTold_129 rfl (lv_at hl 1 rfl) ?_
                refine lv_iconst (v := 2) hx hb dX6_statementTold_130 (by decide) ?_
                refine lv_iload_n hx hb dX6_statementTold_131 rfl (lv_at hl 0 rfl) ?_
                refine tc_codesTold hC hI hT ⟨Nat.le_of_ble_eq_true rfl, Nat.le_of_ble_eq_true rfl⟩ ⟨Nat.zero_le _, Nat.zero_le _⟩ hl.1 (Nat.le_of_ble_eq_true rfl) dX6_statementTold_132 (fun τ25 H locs hT hI => ?_)
                refine lv_goto (tgt := 197) hx hb dX6_statementTold_135 (by decide) ?_
                exact w_197 τ25 _ _ _ hT hI (lv_sub hl [1] rfl)
            · have hT := hT.2 hc
              refine lv_aload_n hx hb dX6_statementTold_109 rfl (lv_at hl 1 rfl) ?_
              refine lv_iconst (v := 1) hx hb dX6_statementTold_110 (by decide) ?_
              refine lv_iload_n hx hb dX6_statementTold_111 rfl (lv_at hl 0 rfl) ?_
              refine tc_codesTold hC hI hT ⟨Nat.le_of_ble_eq_true rfl, Nat.le_of_ble_eq_true rfl⟩ ⟨Nat.zero_le _, Nat.zero_le _⟩ hl.1 (Nat.le_of_ble_eq_true rfl) dX6_statementTold_112 (fun τ26 H locs hT hI => ?_)
              refine lv_goto (tgt := 197) hx hb dX6_statementTold_115 (by decide) ?_
              exact w_197 τ26 _ _ _ hT hI (lv_sub hl [1] rfl)
          · have hT := hT.2 hc
            refine lv_aload_n hx hb dX6_statementTold_89 rfl (lv_at hl 1 rfl) ?_
            refine lv_iconst (v := 0) hx hb dX6_statementTold_90 (by decide) ?_
            refine lv_iload_n hx hb dX6_statementTold_91 rfl (lv_at hl 0 rfl) ?_
            refine tc_codesTold hC hI hT ⟨Nat.le_of_ble_eq_true rfl, Nat.le_of_ble_eq_true rfl⟩ ⟨Nat.zero_le _, Nat.zero_le _⟩ hl.1 (Nat.le_of_ble_eq_true rfl) dX6_statementTold_92 (fun τ27 H locs hT hI => ?_)
            refine lv_goto (tgt := 197) hx hb dX6_statementTold_95 (by decide) ?_
            exact w_197 τ27 _ _ _ hT hI (lv_sub hl [1] rfl)
        · have hT := hT.2 hc
          refine lv_aload_n hx hb dX6_statementTold_70 rfl (lv_at hl 1 rfl) ?_
          refine lv_iload_n hx hb dX6_statementTold_71 rfl (lv_at hl 0 rfl) ?_
          refine tc_trialTold hC hI hT ⟨Nat.le_of_ble_eq_true rfl, Nat.le_of_ble_eq_true rfl⟩ ⟨Nat.zero_le _, Nat.zero_le _⟩ hl.1 (Nat.le_of_ble_eq_true rfl) dX6_statementTold_72 (fun τ28 H locs hT hI => ?_)
          refine lv_goto (tgt := 197) hx hb dX6_statementTold_75 (by decide) ?_
          exact w_197 τ28 _ _ _ hT hI (lv_sub hl [1] rfl)
      · have hT := hT.2 hc
        refine lv_aload_n hx hb dX6_statementTold_51 rfl (lv_at hl 1 rfl) ?_
        refine lv_iload_n hx hb dX6_statementTold_52 rfl (lv_at hl 0 rfl) ?_
        refine tc_menderTold hC hI hT ⟨Nat.le_of_ble_eq_true rfl, Nat.le_of_ble_eq_true rfl⟩ ⟨Nat.zero_le _, Nat.zero_le _⟩ hl.1 (Nat.le_of_ble_eq_true rfl) dX6_statementTold_53 (fun τ29 H locs hT hI => ?_)
        refine lv_goto (tgt := 197) hx hb dX6_statementTold_56 (by decide) ?_
        exact w_197 τ29 _ _ _ hT hI (lv_sub hl [1] rfl)
    · have hT := hT.2 hc
      refine lv_aload_n hx hb dX6_statementTold_32 rfl (lv_at hl 1 rfl) ?_
      refine lv_iload_n hx hb dX6_statementTold_33 rfl (lv_at hl 0 rfl) ?_
      refine tc_thingTold hC hI hT ⟨Nat.le_of_ble_eq_true rfl, Nat.le_of_ble_eq_true rfl⟩ ⟨Nat.zero_le _, Nat.zero_le _⟩ hl.1 (Nat.le_of_ble_eq_true rfl) dX6_statementTold_34 (fun τ30 H locs hT hI => ?_)
      refine lv_goto (tgt := 197) hx hb dX6_statementTold_37 (by decide) ?_
      exact w_197 τ30 _ _ _ hT hI (lv_sub hl [1] rfl)
  · have hT := hT.2 hc
    refine lv_aload_n hx hb dX6_statementTold_14 rfl (lv_at hl 1 rfl) ?_
    refine lv_iconst (v := 5) hx hb dX6_statementTold_15 (by decide) ?_
    refine lv_iload_n hx hb dX6_statementTold_16 rfl (lv_at hl 0 rfl) ?_
    refine tc_fail hC hI hT ⟨Nat.le_of_ble_eq_true rfl, Nat.le_of_ble_eq_true rfl⟩ ⟨Nat.zero_le _, Nat.zero_le _⟩ hl.1 (Nat.le_of_ble_eq_true rfl) dX6_statementTold_17 (fun τ31 H locs hT hI => ?_)
    exact hret _ _ _ _ _ hT hI dX6_statementTold_20
theorem tc_statementTold {p : Program} {l : Launch} {e : Env} {R : Room} {s : State} {m : MethodId} {args : Array Value} {below : List Frame} {meth : Method} {c : Code} {H : Heap} {locs : List Loc} {cells slots : Nat} {Q : State → Prop} {cc : ByteArray} {nL : Nat} {D : va_G} {dA : Nat → ClassId} {ad : Nat → Nat} {τ : Sto} {pc sz : Nat} {ls : Array Slot} {rest : List Value} {H0 : Heap} {K : Sto → Prop} (hC : tC p m c cc nL s args D dA ad) (hI : tI D dA ad sz H0 τ H locs) (hT : T_statementTold τ K) (hR : 12 + 1 ≤ R.frames ∧ 8 + (2 + 11) + 253 ≤ R.locals) (hf : cells ≤ R.cells ∧ slots ≤ R.slots) (hsz : ls.size = nL) (hroom : (rest.map fun v => v.category).sum ≤ 8) (hdg : decode cc pc = .ok (.invokevirtual 377, 3)) (kk : ∀ (τ1 : Sto) (H1 : Heap) (locs1 : List Loc), K τ1 → tI D dA ad sz H0 τ1 H1 locs1 → W p l e R s m args below meth c H1 locs1 cells slots Q (F0 m (pc + 3) ls (rest))) : W p l e R s m args below meth c H locs cells slots Q (F0 m pc ls (.ref (ad 0) :: rest)) :=
  rg_callv (rg_runV hC.1 hC.2.1 hI.1 hI.2.1 tl_0 rfl (met_statementTold l D dA ad hC.2.2 sz τ K hT) (lw_V q2026 q2028 qs63 q170 q2029) 0 (by decide +kernel) ⟨rfl, rfl⟩ hR rfl hsz rfl hroom hf hdg) hI.2.2 (fun τ1 H1 l1 hk hz hP hS => kk τ1 H1 l1 hk ⟨hP, hz, hS⟩)
set_option maxHeartbeats 4000000 in
set_option maxRecDepth 100000 in
theorem met_stands0 (l : Launch) (D : va_G) (dA : Nat → ClassId) (ad : Nat → Nat) (hJ : rgJ twL ad) (sz : Nat) (τ : Sto) (K : Sto → Prop) (hT : T_stands0 τ K) : Met l yX6_stands0 (ws_ yX6_stands0 cX6_stands0 2 (none)) ({ frames := 1, cells := 0, slots := 0, locals := 12 }) (va_Pc [.ref (ad 0)] (rgU D vwCl dA twL ad sz τ)) (va_Qv K (rgU D vwCl dA twL ad sz) (rgAd twL ad)) 0 0 (rgAd twL ad) := by
  refine tw_metv hJ (by decide) rfl (Nat.le_of_ble_eq_true rfl) ?_
  intro p e s m args below meth c Q hC hret hI ls hl
  have hx := hC.1.1
  have hb := hC.1.2.1
  have hl : lv_has ls 2 [(0, .ref (ad 0))] := hl
  have w_186 : ∀ (n : Nat) (x1 : Int32) (τ : Sto) (H : Heap) (locs : List Loc) (ls : Array Slot), T_stands0_186 K n x1 τ → tI D dA ad sz s.heap τ H locs → lv_has ls 2 [(0, .ref (ad 0)), (1, .int x1)] → W p l e ({ frames := 1, cells := 0, slots := 0, locals := 12 }) s m args below meth c H locs 0 0 Q (F0 m 186 ls []) := by
    intro n
    induction n with
    | zero => intro x1 τ H locs ls hT; exact hT.elim
    | succ n ih =>
      intro x1 τ H locs ls hT hI hl
      unfold T_stands0_186 at hT
      refine lv_iload_n hx hb dX6_stands0_186 rfl (lv_at hl 1 rfl) ?_
      refine lv_sipush (v := 192) hx hb dX6_stands0_187 (by decide) ?_
      refine lv_icmp_ge (tgt := 206) hx hb dX6_stands0_190 (by decide) (fun hc => ?_) (fun hc => ?_)
      · have hT := hT.1 hc
        refine lv_aload_n hx hb dX6_stands0_206 rfl (lv_at hl 0 rfl) ?_
        refine lv_iconst (v := 0) hx hb dX6_stands0_207 (by decide) ?_
        refine tp_65 hC hI hT dX6_stands0_208 (fun τ1 H locs hT hI => ?_)
        exact hret _ _ _ _ _ hT hI dX6_stands0_211
      · have hT := hT.2 hc
        refine lv_aload_n hx hb dX6_stands0_193 rfl (lv_at hl 0 rfl) ?_
        refine tg_51 hC hI dX6_stands0_194 ?_
        refine lv_iload_n hx hb dX6_stands0_197 rfl (lv_at hl 1 rfl) ?_
        refine lv_iconst (v := 0) hx hb dX6_stands0_198 (by decide) ?_
        refine tw_iast hC hI tl_52 hT dX6_stands0_199 (fun τ2 H locs hT hI => ?_)
        refine lv_iinc (v := x1 + 1) (lv' := [(1, .int (x1 + 1)), (0, .ref (ad 0))]) hx hb dX6_stands0_200 hl (k := 1) rfl rfl (Nat.le_of_ble_eq_true rfl) rfl (fun ls hl => ?_)
        refine lv_goto (tgt := 186) hx hb dX6_stands0_203 (by decide) ?_
        exact ih (x1 + 1) τ2 _ _ _ hT hI (lv_sub hl [1, 0] rfl)
  have w_154 : ∀ (n : Nat) (x1 : Int32) (τ : Sto) (H : Heap) (locs : List Loc) (ls : Array Slot), T_stands0_154 K n x1 τ → tI D dA ad sz s.heap τ H locs → lv_has ls 2 [(0, .ref (ad 0)), (1, .int x1)] → W p l e ({ frames := 1, cells := 0, slots := 0, locals := 12 }) s m args below meth c H locs 0 0 Q (F0 m 154 ls []) := by
    intro n
    induction n with
    | zero => intro x1 τ H locs ls hT; exact hT.elim
    | succ n ih =>
      intro x1 τ H locs ls hT hI hl
      unfold T_stands0_154 at hT
      refine lv_iload_n hx hb dX6_stands0_154 rfl (lv_at hl 1 rfl) ?_
      refine lv_aload_n hx hb dX6_stands0_155 rfl (lv_at hl 0 rfl) ?_
      refine tg_48 hC hI dX6_stands0_156 ?_
      refine lv_icmp_ge (tgt := 184) hx hb dX6_stands0_159 (by decide) (fun hc => ?_) (fun hc => ?_)
      · have hT := hT.1 hc
        refine lv_iconst (v := 0) hx hb dX6_stands0_184 (by decide) ?_
        refine lv_istore_n (lv' := [(1, .int 0), (0, .ref (ad 0))]) hx hb dX6_stands0_185 rfl hl (Nat.le_of_ble_eq_true rfl) rfl (fun ls hl => ?_)
        obtain ⟨n186, hT⟩ := hT
        exact w_186 n186 0 τ _ _ _ hT hI (lv_sub hl [1, 0] rfl)
      · have hT := hT.2 hc
        refine lv_aload_n hx hb dX6_stands0_162 rfl (lv_at hl 0 rfl) ?_
        refine tg_47 hC hI dX6_stands0_163 ?_
        refine lv_sipush (v := 1600) hx hb dX6_stands0_166 (by decide) ?_
        refine lv_iload_n hx hb dX6_stands0_169 rfl (lv_at hl 1 rfl) ?_
        refine lv_iadd hx hb dX6_stands0_170 ?_
        refine lv_aload_n hx hb dX6_stands0_171 rfl (lv_at hl 0 rfl) ?_
        refine tg_47 hC hI dX6_stands0_172 ?_
        refine lv_iload_n hx hb dX6_stands0_175 rfl (lv_at hl 1 rfl) ?_
        refine tw_iald hC hI tl_48 hT dX6_stands0_176 (fun hT => ?_)
        refine tw_iast hC hI tl_48 hT dX6_stands0_177 (fun τ3 H locs hT hI => ?_)
        refine lv_iinc (v := x1 + 1) (lv' := [(1, .int (x1 + 1)), (0, .ref (ad 0))]) hx hb dX6_stands0_178 hl (k := 1) rfl rfl (Nat.le_of_ble_eq_true rfl) rfl (fun ls hl => ?_)
        refine lv_goto (tgt := 154) hx hb dX6_stands0_181 (by decide) ?_
        exact ih (x1 + 1) τ3 _ _ _ hT hI (lv_sub hl [1, 0] rfl)
  have w_110 : ∀ (n : Nat) (x1 : Int32) (τ : Sto) (H : Heap) (locs : List Loc) (ls : Array Slot), T_stands0_110 K n x1 τ → tI D dA ad sz s.heap τ H locs → lv_has ls 2 [(0, .ref (ad 0)), (1, .int x1)] → W p l e ({ frames := 1, cells := 0, slots := 0, locals := 12 }) s m args below meth c H locs 0 0 Q (F0 m 110 ls []) := by
    intro n
    induction n with
    | zero => intro x1 τ H locs ls hT; exact hT.elim
    | succ n ih =>
      intro x1 τ H locs ls hT hI hl
      unfold T_stands0_110 at hT
      refine lv_iload_n hx hb dX6_stands0_110 rfl (lv_at hl 1 rfl) ?_
      refine lv_bipush (v := 10) hx hb dX6_stands0_111 (by decide) ?_
      refine lv_icmp_ge (tgt := 152) hx hb dX6_stands0_113 (by decide) (fun hc => ?_) (fun hc => ?_)
      · have hT := hT.1 hc
        refine lv_iconst (v := 0) hx hb dX6_stands0_152 (by decide) ?_
        refine lv_istore_n (lv' := [(1, .int 0), (0, .ref (ad 0))]) hx hb dX6_stands0_153 rfl hl (Nat.le_of_ble_eq_true rfl) rfl (fun ls hl => ?_)
        obtain ⟨n154, hT⟩ := hT
        exact w_154 n154 0 τ _ _ _ hT hI (lv_sub hl [1, 0] rfl)
      · have hT := hT.2 hc
        refine lv_aload_n hx hb dX6_stands0_116 rfl (lv_at hl 0 rfl) ?_
        refine tg_45 hC hI dX6_stands0_117 ?_
        refine lv_bipush (v := 10) hx hb dX6_stands0_120 (by decide) ?_
        refine lv_iload_n hx hb dX6_stands0_122 rfl (lv_at hl 1 rfl) ?_
        refine lv_iadd hx hb dX6_stands0_123 ?_
        refine lv_aload_n hx hb dX6_stands0_124 rfl (lv_at hl 0 rfl) ?_
        refine tg_45 hC hI dX6_stands0_125 ?_
        refine lv_iload_n hx hb dX6_stands0_128 rfl (lv_at hl 1 rfl) ?_
        refine tw_iald hC hI tl_46 hT dX6_stands0_129 (fun hT => ?_)
        refine tw_iast hC hI tl_46 hT dX6_stands0_130 (fun τ4 H locs hT hI => ?_)
        refine lv_aload_n hx hb dX6_stands0_131 rfl (lv_at hl 0 rfl) ?_
        refine tg_46 hC hI dX6_stands0_132 ?_
        refine lv_bipush (v := 10) hx hb dX6_stands0_135 (by decide) ?_
        refine lv_iload_n hx hb dX6_stands0_137 rfl (lv_at hl 1 rfl) ?_
        refine lv_iadd hx hb dX6_stands0_138 ?_
        refine lv_aload_n hx hb dX6_stands0_139 rfl (lv_at hl 0 rfl) ?_
        refine tg_46 hC hI dX6_stands0_140 ?_
        refine lv_iload_n hx hb dX6_stands0_143 rfl (lv_at hl 1 rfl) ?_
        refine tw_iald hC hI tl_47 hT dX6_stands0_144 (fun hT => ?_)
        refine tw_iast hC hI tl_47 hT dX6_stands0_145 (fun τ5 H locs hT hI => ?_)
        refine lv_iinc (v := x1 + 1) (lv' := [(1, .int (x1 + 1)), (0, .ref (ad 0))]) hx hb dX6_stands0_146 hl (k := 1) rfl rfl (Nat.le_of_ble_eq_true rfl) rfl (fun ls hl => ?_)
        refine lv_goto (tgt := 110) hx hb dX6_stands0_149 (by decide) ?_
        exact ih (x1 + 1) τ5 _ _ _ hT hI (lv_sub hl [1, 0] rfl)
  have w_73 : ∀ (n : Nat) (x1 : Int32) (τ : Sto) (H : Heap) (locs : List Loc) (ls : Array Slot), T_stands0_73 K n x1 τ → tI D dA ad sz s.heap τ H locs → lv_has ls 2 [(0, .ref (ad 0)), (1, .int x1)] → W p l e ({ frames := 1, cells := 0, slots := 0, locals := 12 }) s m args below meth c H locs 0 0 Q (F0 m 73 ls []) := by
    intro n
    induction n with
    | zero => intro x1 τ H locs ls hT; exact hT.elim
    | succ n ih =>
      intro x1 τ H locs ls hT hI hl
      unfold T_stands0_73 at hT
      refine lv_iload_n hx hb dX6_stands0_73 rfl (lv_at hl 1 rfl) ?_
      refine lv_bipush (v := 8) hx hb dX6_stands0_74 (by decide) ?_
      refine lv_icmp_ge (tgt := 100) hx hb dX6_stands0_76 (by decide) (fun hc => ?_) (fun hc => ?_)
      · have hT := hT.1 hc
        refine lv_aload_n hx hb dX6_stands0_100 rfl (lv_at hl 0 rfl) ?_
        refine lv_aload_n hx hb dX6_stands0_101 rfl (lv_at hl 0 rfl) ?_
        refine tg_43 hC hI dX6_stands0_102 ?_
        refine tp_44 hC hI hT dX6_stands0_105 (fun τ6 H locs hT hI => ?_)
        refine lv_iconst (v := 0) hx hb dX6_stands0_108 (by decide) ?_
        refine lv_istore_n (lv' := [(1, .int 0), (0, .ref (ad 0))]) hx hb dX6_stands0_109 rfl hl (Nat.le_of_ble_eq_true rfl) rfl (fun ls hl => ?_)
        obtain ⟨n110, hT⟩ := hT
        exact w_110 n110 0 τ6 _ _ _ hT hI (lv_sub hl [1, 0] rfl)
      · have hT := hT.2 hc
        refine lv_aload_n hx hb dX6_stands0_79 rfl (lv_at hl 0 rfl) ?_
        refine tg_42 hC hI dX6_stands0_80 ?_
        refine lv_bipush (v := 8) hx hb dX6_stands0_83 (by decide) ?_
        refine lv_iload_n hx hb dX6_stands0_85 rfl (lv_at hl 1 rfl) ?_
        refine lv_iadd hx hb dX6_stands0_86 ?_
        refine lv_aload_n hx hb dX6_stands0_87 rfl (lv_at hl 0 rfl) ?_
        refine tg_42 hC hI dX6_stands0_88 ?_
        refine lv_iload_n hx hb dX6_stands0_91 rfl (lv_at hl 1 rfl) ?_
        refine tw_iald hC hI tl_43 hT dX6_stands0_92 (fun hT => ?_)
        refine tw_iast hC hI tl_43 hT dX6_stands0_93 (fun τ7 H locs hT hI => ?_)
        refine lv_iinc (v := x1 + 1) (lv' := [(1, .int (x1 + 1)), (0, .ref (ad 0))]) hx hb dX6_stands0_94 hl (k := 1) rfl rfl (Nat.le_of_ble_eq_true rfl) rfl (fun ls hl => ?_)
        refine lv_goto (tgt := 73) hx hb dX6_stands0_97 (by decide) ?_
        exact ih (x1 + 1) τ7 _ _ _ hT hI (lv_sub hl [1, 0] rfl)
  have w_29 : ∀ (n : Nat) (x1 : Int32) (τ : Sto) (H : Heap) (locs : List Loc) (ls : Array Slot), T_stands0_29 K n x1 τ → tI D dA ad sz s.heap τ H locs → lv_has ls 2 [(0, .ref (ad 0)), (1, .int x1)] → W p l e ({ frames := 1, cells := 0, slots := 0, locals := 12 }) s m args below meth c H locs 0 0 Q (F0 m 29 ls []) := by
    intro n
    induction n with
    | zero => intro x1 τ H locs ls hT; exact hT.elim
    | succ n ih =>
      intro x1 τ H locs ls hT hI hl
      unfold T_stands0_29 at hT
      refine lv_iload_n hx hb dX6_stands0_29 rfl (lv_at hl 1 rfl) ?_
      refine lv_bipush (v := 24) hx hb dX6_stands0_30 (by decide) ?_
      refine lv_icmp_ge (tgt := 71) hx hb dX6_stands0_32 (by decide) (fun hc => ?_) (fun hc => ?_)
      · have hT := hT.1 hc
        refine lv_iconst (v := 0) hx hb dX6_stands0_71 (by decide) ?_
        refine lv_istore_n (lv' := [(1, .int 0), (0, .ref (ad 0))]) hx hb dX6_stands0_72 rfl hl (Nat.le_of_ble_eq_true rfl) rfl (fun ls hl => ?_)
        obtain ⟨n73, hT⟩ := hT
        exact w_73 n73 0 τ _ _ _ hT hI (lv_sub hl [1, 0] rfl)
      · have hT := hT.2 hc
        refine lv_aload_n hx hb dX6_stands0_35 rfl (lv_at hl 0 rfl) ?_
        refine tg_40 hC hI dX6_stands0_36 ?_
        refine lv_bipush (v := 24) hx hb dX6_stands0_39 (by decide) ?_
        refine lv_iload_n hx hb dX6_stands0_41 rfl (lv_at hl 1 rfl) ?_
        refine lv_iadd hx hb dX6_stands0_42 ?_
        refine lv_aload_n hx hb dX6_stands0_43 rfl (lv_at hl 0 rfl) ?_
        refine tg_40 hC hI dX6_stands0_44 ?_
        refine lv_iload_n hx hb dX6_stands0_47 rfl (lv_at hl 1 rfl) ?_
        refine tw_lald hC hI tl_41 hT dX6_stands0_48 (fun hT => ?_)
        refine tw_last hC hI tl_41 hT dX6_stands0_49 (fun τ8 H locs hT hI => ?_)
        refine lv_aload_n hx hb dX6_stands0_50 rfl (lv_at hl 0 rfl) ?_
        refine tg_41 hC hI dX6_stands0_51 ?_
        refine lv_bipush (v := 24) hx hb dX6_stands0_54 (by decide) ?_
        refine lv_iload_n hx hb dX6_stands0_56 rfl (lv_at hl 1 rfl) ?_
        refine lv_iadd hx hb dX6_stands0_57 ?_
        refine lv_aload_n hx hb dX6_stands0_58 rfl (lv_at hl 0 rfl) ?_
        refine tg_41 hC hI dX6_stands0_59 ?_
        refine lv_iload_n hx hb dX6_stands0_62 rfl (lv_at hl 1 rfl) ?_
        refine tw_iald hC hI tl_42 hT dX6_stands0_63 (fun hT => ?_)
        refine tw_iast hC hI tl_42 hT dX6_stands0_64 (fun τ9 H locs hT hI => ?_)
        refine lv_iinc (v := x1 + 1) (lv' := [(1, .int (x1 + 1)), (0, .ref (ad 0))]) hx hb dX6_stands0_65 hl (k := 1) rfl rfl (Nat.le_of_ble_eq_true rfl) rfl (fun ls hl => ?_)
        refine lv_goto (tgt := 29) hx hb dX6_stands0_68 (by decide) ?_
        exact ih (x1 + 1) τ9 _ _ _ hT hI (lv_sub hl [1, 0] rfl)
  have w_2 : ∀ (n : Nat) (x1 : Int32) (τ : Sto) (H : Heap) (locs : List Loc) (ls : Array Slot), T_stands0_2 K n x1 τ → tI D dA ad sz s.heap τ H locs → lv_has ls 2 [(0, .ref (ad 0)), (1, .int x1)] → W p l e ({ frames := 1, cells := 0, slots := 0, locals := 12 }) s m args below meth c H locs 0 0 Q (F0 m 2 ls []) := by
    intro n
    induction n with
    | zero => intro x1 τ H locs ls hT; exact hT.elim
    | succ n ih =>
      intro x1 τ H locs ls hT hI hl
      unfold T_stands0_2 at hT
      refine lv_iload_n hx hb dX6_stands0_2 rfl (lv_at hl 1 rfl) ?_
      refine lv_iconst (v := 3) hx hb dX6_stands0_3 (by decide) ?_
      refine lv_icmp_ge (tgt := 27) hx hb dX6_stands0_4 (by decide) (fun hc => ?_) (fun hc => ?_)
      · have hT := hT.1 hc
        refine lv_iconst (v := 0) hx hb dX6_stands0_27 (by decide) ?_
        refine lv_istore_n (lv' := [(1, .int 0), (0, .ref (ad 0))]) hx hb dX6_stands0_28 rfl hl (Nat.le_of_ble_eq_true rfl) rfl (fun ls hl => ?_)
        obtain ⟨n29, hT⟩ := hT
        exact w_29 n29 0 τ _ _ _ hT hI (lv_sub hl [1, 0] rfl)
      · have hT := hT.2 hc
        refine lv_aload_n hx hb dX6_stands0_7 rfl (lv_at hl 0 rfl) ?_
        refine tg_39 hC hI dX6_stands0_8 ?_
        refine lv_iconst (v := 3) hx hb dX6_stands0_11 (by decide) ?_
        refine lv_iload_n hx hb dX6_stands0_12 rfl (lv_at hl 1 rfl) ?_
        refine lv_iadd hx hb dX6_stands0_13 ?_
        refine lv_aload_n hx hb dX6_stands0_14 rfl (lv_at hl 0 rfl) ?_
        refine tg_39 hC hI dX6_stands0_15 ?_
        refine lv_iload_n hx hb dX6_stands0_18 rfl (lv_at hl 1 rfl) ?_
        refine tw_iald hC hI tl_40 hT dX6_stands0_19 (fun hT => ?_)
        refine tw_iast hC hI tl_40 hT dX6_stands0_20 (fun τ10 H locs hT hI => ?_)
        refine lv_iinc (v := x1 + 1) (lv' := [(1, .int (x1 + 1)), (0, .ref (ad 0))]) hx hb dX6_stands0_21 hl (k := 1) rfl rfl (Nat.le_of_ble_eq_true rfl) rfl (fun ls hl => ?_)
        refine lv_goto (tgt := 2) hx hb dX6_stands0_24 (by decide) ?_
        exact ih (x1 + 1) τ10 _ _ _ hT hI (lv_sub hl [1, 0] rfl)
  unfold T_stands0 at hT
  refine lv_iconst (v := 0) hx hb dX6_stands0_0 (by decide) ?_
  refine lv_istore_n (lv' := [(1, .int 0), (0, .ref (ad 0))]) hx hb dX6_stands0_1 rfl hl (Nat.le_of_ble_eq_true rfl) rfl (fun ls hl => ?_)
  obtain ⟨n2, hT⟩ := hT
  exact w_2 n2 0 τ _ _ _ hT hI (lv_sub hl [1, 0] rfl)
theorem tc_stands0 {p : Program} {l : Launch} {e : Env} {R : Room} {s : State} {m : MethodId} {args : Array Value} {below : List Frame} {meth : Method} {c : Code} {H : Heap} {locs : List Loc} {cells slots : Nat} {Q : State → Prop} {cc : ByteArray} {nL : Nat} {D : va_G} {dA : Nat → ClassId} {ad : Nat → Nat} {τ : Sto} {pc sz : Nat} {ls : Array Slot} {rest : List Value} {H0 : Heap} {K : Sto → Prop} (hC : tC p m c cc nL s args D dA ad) (hI : tI D dA ad sz H0 τ H locs) (hT : T_stands0 τ K) (hR : 1 + 1 ≤ R.frames ∧ 8 + (2 + 11) + 12 ≤ R.locals) (hf : cells ≤ R.cells ∧ slots ≤ R.slots) (hsz : ls.size = nL) (hroom : (rest.map fun v => v.category).sum ≤ 8) (hdg : decode cc pc = .ok (.invokevirtual 383, 3)) (kk : ∀ (τ1 : Sto) (H1 : Heap) (locs1 : List Loc), K τ1 → tI D dA ad sz H0 τ1 H1 locs1 → W p l e R s m args below meth c H1 locs1 cells slots Q (F0 m (pc + 3) ls (rest))) : W p l e R s m args below meth c H locs cells slots Q (F0 m pc ls (.ref (ad 0) :: rest)) :=
  rg_callv (rg_runV hC.1 hC.2.1 hI.1 hI.2.1 tl_0 rfl (met_stands0 l D dA ad hC.2.2 sz τ K hT) (lw_V q2191 q2193 qs100 q170 q2194) 0 (by decide +kernel) ⟨rfl, rfl⟩ hR rfl hsz rfl hroom hf hdg) hI.2.2 (fun τ1 H1 l1 hk hz hP hS => kk τ1 H1 l1 hk ⟨hP, hz, hS⟩)
set_option maxHeartbeats 4000000 in
set_option maxRecDepth 100000 in
theorem met_island (l : Launch) (D : va_G) (dA : Nat → ClassId) (ad : Nat → Nat) (hJ : rgJ twL ad) (sz : Nat) (τ : Sto) (K : Int32 → Sto → Prop) (hT : T_island τ K) : Met l yX6_island (ws_ yX6_island cX6_island 2 (some .int)) ({ frames := 13, cells := 0, slots := 0, locals := 274 }) (va_Pc [.ref (ad 0)] (rgU D vwCl dA twL ad sz τ)) (va_Qi K (rgU D vwCl dA twL ad sz) (rgAd twL ad)) 0 0 (rgAd twL ad) := by
  refine tw_meti hJ (by decide) rfl (Nat.le_of_ble_eq_true rfl) ?_
  intro p e s m args below meth c Q hC hret hI ls hl
  have hx := hC.1.1
  have hb := hC.1.2.1
  have hl : lv_has ls 2 [(0, .ref (ad 0))] := hl
  have w_111 : ∀ (τ : Sto) (H : Heap) (locs : List Loc) (ls : Array Slot), T_island_111 K τ → tI D dA ad sz s.heap τ H locs → lv_has ls 2 [(0, .ref (ad 0))] → W p l e ({ frames := 13, cells := 0, slots := 0, locals := 274 }) s m args below meth c H locs 0 0 Q (F0 m 111 ls []) := by
    intro τ H locs ls hT hI hl
    unfold T_island_111 at hT
    refine lv_aload_n hx hb dX6_island_111 rfl (lv_at hl 0 rfl) ?_
    refine lv_aload_n hx hb dX6_island_112 rfl (lv_at hl 0 rfl) ?_
    refine tg_5 hC hI dX6_island_113 ?_
    refine tp_7 hC hI hT dX6_island_116 (fun τ1 H locs hT hI => ?_)
    refine lv_aload_n hx hb dX6_island_119 rfl (lv_at hl 0 rfl) ?_
    refine lv_aload_n hx hb dX6_island_120 rfl (lv_at hl 0 rfl) ?_
    refine tg_6 hC hI dX6_island_121 ?_
    refine tp_8 hC hI hT dX6_island_124 (fun τ2 H locs hT hI => ?_)
    refine lv_aload_n hx hb dX6_island_127 rfl (lv_at hl 0 rfl) ?_
    refine tg_5 hC hI dX6_island_128 ?_
    refine lv_if_eq (tgt := 146) hx hb dX6_island_131 (by decide) (fun hc => ?_) (fun hc => ?_)
    · have hT := hT.1 hc
      refine lv_aload_n hx hb dX6_island_146 rfl (lv_at hl 0 rfl) ?_
      refine tc_stands0 hC hI hT ⟨Nat.le_of_ble_eq_true rfl, Nat.le_of_ble_eq_true rfl⟩ ⟨Nat.zero_le _, Nat.zero_le _⟩ hl.1 (Nat.le_of_ble_eq_true rfl) dX6_island_147 (fun τ3 H locs hT hI => ?_)
      refine lv_aload_n hx hb dX6_island_150 rfl (lv_at hl 0 rfl) ?_
      refine tg_49 hC hI dX6_island_151 ?_
      exact hret _ _ _ _ _ _ hT hI dX6_island_154
    · have hT := hT.2 hc
      refine lv_aload_n hx hb dX6_island_134 rfl (lv_at hl 0 rfl) ?_
      refine tg_9 hC hI dX6_island_135 ?_
      refine lv_iconst (v := 1) hx hb dX6_island_138 (by decide) ?_
      refine lv_dup2_11 hx hb dX6_island_139 rfl rfl ?_
      refine tw_iald hC hI tl_10 hT dX6_island_140 (fun hT => ?_)
      refine lv_iconst (v := 1) hx hb dX6_island_141 (by decide) ?_
      refine lv_iadd hx hb dX6_island_142 ?_
      refine tw_iast hC hI tl_10 hT dX6_island_143 (fun τ4 H locs hT hI => ?_)
      refine lv_iconst (v := -1) hx hb dX6_island_144 (by decide) ?_
      exact hret _ _ _ _ _ _ hT hI dX6_island_145
  have w_89 : ∀ (n : Nat) (τ : Sto) (H : Heap) (locs : List Loc) (ls : Array Slot), T_island_89 K n τ → tI D dA ad sz s.heap τ H locs → lv_has ls 2 [(0, .ref (ad 0))] → W p l e ({ frames := 13, cells := 0, slots := 0, locals := 274 }) s m args below meth c H locs 0 0 Q (F0 m 89 ls []) := by
    intro n
    induction n with
    | zero => intro τ H locs ls hT; exact hT.elim
    | succ n ih =>
      intro τ H locs ls hT hI hl
      unfold T_island_89 at hT
      refine lv_aload_n hx hb dX6_island_89 rfl (lv_at hl 0 rfl) ?_
      refine tg_5 hC hI dX6_island_90 ?_
      refine lv_if_ne (tgt := 111) hx hb dX6_island_93 (by decide) (fun hc => ?_) (fun hc => ?_)
      · have hT := hT.1 hc
        exact w_111 τ _ _ _ hT hI (lv_sub hl [0] rfl)
      · have hT := hT.2 hc
        refine lv_aload_n hx hb dX6_island_96 rfl (lv_at hl 0 rfl) ?_
        refine tc_look hC hI hT ⟨Nat.le_of_ble_eq_true rfl, Nat.le_of_ble_eq_true rfl⟩ ⟨Nat.zero_le _, Nat.zero_le _⟩ hl.1 (Nat.le_of_ble_eq_true rfl) dX6_island_97 (fun r6 τ5 H locs hT hI => ?_)
        refine lv_iconst (v := -1) hx hb dX6_island_100 (by decide) ?_
        refine lv_icmp_eq (tgt := 111) hx hb dX6_island_101 (by decide) (fun hc => ?_) (fun hc => ?_)
        · have hT := hT.1 hc
          exact w_111 τ5 _ _ _ hT hI (lv_sub hl [0] rfl)
        · have hT := hT.2 hc
          refine lv_aload_n hx hb dX6_island_104 rfl (lv_at hl 0 rfl) ?_
          refine tc_statementTold hC hI hT ⟨Nat.le_of_ble_eq_true rfl, Nat.le_of_ble_eq_true rfl⟩ ⟨Nat.zero_le _, Nat.zero_le _⟩ hl.1 (Nat.le_of_ble_eq_true rfl) dX6_island_105 (fun τ7 H locs hT hI => ?_)
          refine lv_goto (tgt := 89) hx hb dX6_island_108 (by decide) ?_
          exact ih τ7 _ _ _ hT hI (lv_sub hl [0] rfl)
  have w_65 : ∀ (n : Nat) (x1 : Int32) (τ : Sto) (H : Heap) (locs : List Loc) (ls : Array Slot), T_island_65 K n x1 τ → tI D dA ad sz s.heap τ H locs → lv_has ls 2 [(0, .ref (ad 0)), (1, .int x1)] → W p l e ({ frames := 13, cells := 0, slots := 0, locals := 274 }) s m args below meth c H locs 0 0 Q (F0 m 65 ls []) := by
    intro n
    induction n with
    | zero => intro x1 τ H locs ls hT; exact hT.elim
    | succ n ih =>
      intro x1 τ H locs ls hT hI hl
      unfold T_island_65 at hT
      refine lv_iload_n hx hb dX6_island_65 rfl (lv_at hl 1 rfl) ?_
      refine lv_bipush (v := 10) hx hb dX6_island_66 (by decide) ?_
      refine lv_icmp_ge (tgt := 84) hx hb dX6_island_68 (by decide) (fun hc => ?_) (fun hc => ?_)
      · have hT := hT.1 hc
        refine lv_aload_n hx hb dX6_island_84 rfl (lv_at hl 0 rfl) ?_
        refine lv_iconst (v := 0) hx hb dX6_island_85 (by decide) ?_
        refine tp_43 hC hI hT dX6_island_86 (fun τ8 H locs hT hI => ?_)
        obtain ⟨n89, hT⟩ := hT
        exact w_89 n89 τ8 _ _ _ hT hI (lv_sub hl [0] rfl)
      · have hT := hT.2 hc
        refine lv_aload_n hx hb dX6_island_71 rfl (lv_at hl 0 rfl) ?_
        refine tg_45 hC hI dX6_island_72 ?_
        refine lv_iload_n hx hb dX6_island_75 rfl (lv_at hl 1 rfl) ?_
        refine lv_iconst (v := -1) hx hb dX6_island_76 (by decide) ?_
        refine tw_iast hC hI tl_46 hT dX6_island_77 (fun τ9 H locs hT hI => ?_)
        refine lv_iinc (v := x1 + 1) (lv' := [(1, .int (x1 + 1)), (0, .ref (ad 0))]) hx hb dX6_island_78 hl (k := 1) rfl rfl (Nat.le_of_ble_eq_true rfl) rfl (fun ls hl => ?_)
        refine lv_goto (tgt := 65) hx hb dX6_island_81 (by decide) ?_
        exact ih (x1 + 1) τ9 _ _ _ hT hI (lv_sub hl [1, 0] rfl)
  have w_45 : ∀ (n : Nat) (x1 : Int32) (τ : Sto) (H : Heap) (locs : List Loc) (ls : Array Slot), T_island_45 K n x1 τ → tI D dA ad sz s.heap τ H locs → lv_has ls 2 [(0, .ref (ad 0)), (1, .int x1)] → W p l e ({ frames := 13, cells := 0, slots := 0, locals := 274 }) s m args below meth c H locs 0 0 Q (F0 m 45 ls []) := by
    intro n
    induction n with
    | zero => intro x1 τ H locs ls hT; exact hT.elim
    | succ n ih =>
      intro x1 τ H locs ls hT hI hl
      unfold T_island_45 at hT
      refine lv_iload_n hx hb dX6_island_45 rfl (lv_at hl 1 rfl) ?_
      refine lv_iconst (v := 3) hx hb dX6_island_46 (by decide) ?_
      refine lv_icmp_ge (tgt := 63) hx hb dX6_island_47 (by decide) (fun hc => ?_) (fun hc => ?_)
      · have hT := hT.1 hc
        refine lv_iconst (v := 0) hx hb dX6_island_63 (by decide) ?_
        refine lv_istore_n (lv' := [(1, .int 0), (0, .ref (ad 0))]) hx hb dX6_island_64 rfl hl (Nat.le_of_ble_eq_true rfl) rfl (fun ls hl => ?_)
        obtain ⟨n65, hT⟩ := hT
        exact w_65 n65 0 τ _ _ _ hT hI (lv_sub hl [1, 0] rfl)
      · have hT := hT.2 hc
        refine lv_aload_n hx hb dX6_island_50 rfl (lv_at hl 0 rfl) ?_
        refine tg_39 hC hI dX6_island_51 ?_
        refine lv_iload_n hx hb dX6_island_54 rfl (lv_at hl 1 rfl) ?_
        refine lv_iconst (v := 0) hx hb dX6_island_55 (by decide) ?_
        refine tw_iast hC hI tl_40 hT dX6_island_56 (fun τ10 H locs hT hI => ?_)
        refine lv_iinc (v := x1 + 1) (lv' := [(1, .int (x1 + 1)), (0, .ref (ad 0))]) hx hb dX6_island_57 hl (k := 1) rfl rfl (Nat.le_of_ble_eq_true rfl) rfl (fun ls hl => ?_)
        refine lv_goto (tgt := 45) hx hb dX6_island_60 (by decide) ?_
        exact ih (x1 + 1) τ10 _ _ _ hT hI (lv_sub hl [1, 0] rfl)
  unfold T_island at hT
  refine lv_aload_n hx hb dX6_island_0 rfl (lv_at hl 0 rfl) ?_
  refine lv_aload_n hx hb dX6_island_1 rfl (lv_at hl 0 rfl) ?_
  refine tg_1 hC hI dX6_island_2 ?_
  refine tp_3 hC hI hT dX6_island_5 (fun τ11 H locs hT hI => ?_)
  refine lv_aload_n hx hb dX6_island_8 rfl (lv_at hl 0 rfl) ?_
  refine lv_iconst (v := 0) hx hb dX6_island_9 (by decide) ?_
  refine tp_1 hC hI hT dX6_island_10 (fun τ12 H locs hT hI => ?_)
  refine lv_aload_n hx hb dX6_island_13 rfl (lv_at hl 0 rfl) ?_
  refine lv_iconst (v := 0) hx hb dX6_island_14 (by decide) ?_
  refine tp_2 hC hI hT dX6_island_15 (fun τ13 H locs hT hI => ?_)
  refine lv_aload_n hx hb dX6_island_18 rfl (lv_at hl 0 rfl) ?_
  refine lv_iconst (v := -1) hx hb dX6_island_19 (by decide) ?_
  refine tp_4 hC hI hT dX6_island_20 (fun τ14 H locs hT hI => ?_)
  refine lv_aload_n hx hb dX6_island_23 rfl (lv_at hl 0 rfl) ?_
  refine lv_iconst (v := 0) hx hb dX6_island_24 (by decide) ?_
  refine tp_5 hC hI hT dX6_island_25 (fun τ15 H locs hT hI => ?_)
  refine lv_aload_n hx hb dX6_island_28 rfl (lv_at hl 0 rfl) ?_
  refine lv_iconst (v := -1) hx hb dX6_island_29 (by decide) ?_
  refine tp_6 hC hI hT dX6_island_30 (fun τ16 H locs hT hI => ?_)
  refine lv_aload_n hx hb dX6_island_33 rfl (lv_at hl 0 rfl) ?_
  refine lv_iconst (v := 0) hx hb dX6_island_34 (by decide) ?_
  refine tp_49 hC hI hT dX6_island_35 (fun τ17 H locs hT hI => ?_)
  refine lv_aload_n hx hb dX6_island_38 rfl (lv_at hl 0 rfl) ?_
  refine lv_iconst (v := 0) hx hb dX6_island_39 (by decide) ?_
  refine tp_48 hC hI hT dX6_island_40 (fun τ18 H locs hT hI => ?_)
  refine lv_iconst (v := 0) hx hb dX6_island_43 (by decide) ?_
  refine lv_istore_n (lv' := [(1, .int 0), (0, .ref (ad 0))]) hx hb dX6_island_44 rfl hl (Nat.le_of_ble_eq_true rfl) rfl (fun ls hl => ?_)
  obtain ⟨n45, hT⟩ := hT
  exact w_45 n45 0 τ18 _ _ _ hT hI (lv_sub hl [1, 0] rfl)
set_option maxHeartbeats 4000000 in
set_option maxRecDepth 100000 in
theorem met_fault (l : Launch) (D : va_G) (dA : Nat → ClassId) (ad : Nat → Nat) (hJ : rgJ twL ad) (sz : Nat) (τ : Sto) (x1 : Int32) (K : Int32 → Sto → Prop) (hT : T_fault τ x1 K) : Met l yX6_fault (ws_ yX6_fault cX6_fault 2 (some .int)) ({ frames := 1, cells := 0, slots := 0, locals := 12 }) (va_Pc [.ref (ad 0), .int x1] (rgU D vwCl dA twL ad sz τ)) (va_Qi K (rgU D vwCl dA twL ad sz) (rgAd twL ad)) 0 0 (rgAd twL ad) := by
  refine tw_meti hJ (by decide) rfl (Nat.le_of_ble_eq_true rfl) ?_
  intro p e s m args below meth c Q hC hret hI ls hl
  have hx := hC.1.1
  have hb := hC.1.2.1
  have hl : lv_has ls 2 [(0, .ref (ad 0)), (1, .int x1)] := hl
  unfold T_fault at hT
  refine lv_iload_n hx hb dX6_fault_0 rfl (lv_at hl 1 rfl) ?_
  refine lv_if_ne (tgt := 11) hx hb dX6_fault_1 (by decide) (fun hc => ?_) (fun hc => ?_)
  · have hT := hT.1 hc
    refine lv_iload_n hx hb dX6_fault_11 rfl (lv_at hl 1 rfl) ?_
    refine lv_iconst (v := 1) hx hb dX6_fault_12 (by decide) ?_
    refine lv_icmp_ne (tgt := 23) hx hb dX6_fault_13 (by decide) (fun hc => ?_) (fun hc => ?_)
    · have hT := hT.1 hc
      refine lv_iconst (v := -1) hx hb dX6_fault_23 (by decide) ?_
      exact hret _ _ _ _ _ _ hT hI dX6_fault_24
    · have hT := hT.2 hc
      refine lv_aload_n hx hb dX6_fault_16 rfl (lv_at hl 0 rfl) ?_
      refine tg_8 hC hI dX6_fault_17 ?_
      refine lv_goto (tgt := 24) hx hb dX6_fault_20 (by decide) ?_
      exact hret _ _ _ _ _ _ hT hI dX6_fault_24
  · have hT := hT.2 hc
    refine lv_aload_n hx hb dX6_fault_4 rfl (lv_at hl 0 rfl) ?_
    refine tg_7 hC hI dX6_fault_5 ?_
    refine lv_goto (tgt := 24) hx hb dX6_fault_8 (by decide) ?_
    exact hret _ _ _ _ _ _ hT hI dX6_fault_24
set_option maxHeartbeats 4000000 in
set_option maxRecDepth 100000 in
theorem met_thingMany (l : Launch) (D : va_G) (dA : Nat → ClassId) (ad : Nat → Nat) (hJ : rgJ twL ad) (sz : Nat) (τ : Sto) (K : Int32 → Sto → Prop) (hT : T_thingMany τ K) : Met l yX6_thingMany (ws_ yX6_thingMany cX6_thingMany 1 (some .int)) ({ frames := 1, cells := 0, slots := 0, locals := 12 }) (va_Pc [.ref (ad 0)] (rgU D vwCl dA twL ad sz τ)) (va_Qi K (rgU D vwCl dA twL ad sz) (rgAd twL ad)) 0 0 (rgAd twL ad) := by
  refine tw_meti hJ (by decide) rfl (Nat.le_of_ble_eq_true rfl) ?_
  intro p e s m args below meth c Q hC hret hI ls hl
  have hx := hC.1.1
  have hb := hC.1.2.1
  have hl : lv_has ls 1 [(0, .ref (ad 0))] := hl
  unfold T_thingMany at hT
  refine lv_aload_n hx hb dX6_thingMany_0 rfl (lv_at hl 0 rfl) ?_
  refine tg_39 hC hI dX6_thingMany_1 ?_
  refine lv_iconst (v := 3) hx hb dX6_thingMany_4 (by decide) ?_
  refine tw_iald hC hI tl_40 hT dX6_thingMany_5 (fun hT => ?_)
  exact hret _ _ _ _ _ _ hT hI dX6_thingMany_6
theorem tc_thingMany {p : Program} {l : Launch} {e : Env} {R : Room} {s : State} {m : MethodId} {args : Array Value} {below : List Frame} {meth : Method} {c : Code} {H : Heap} {locs : List Loc} {cells slots : Nat} {Q : State → Prop} {cc : ByteArray} {nL : Nat} {D : va_G} {dA : Nat → ClassId} {ad : Nat → Nat} {τ : Sto} {pc sz : Nat} {ls : Array Slot} {rest : List Value} {H0 : Heap} {K : Int32 → Sto → Prop} (hC : tC p m c cc nL s args D dA ad) (hI : tI D dA ad sz H0 τ H locs) (hT : T_thingMany τ K) (hR : 1 + 1 ≤ R.frames ∧ 8 + (1 + 11) + 12 ≤ R.locals) (hf : cells ≤ R.cells ∧ slots ≤ R.slots) (hsz : ls.size = nL) (hroom : (rest.map fun v => v.category).sum ≤ 8) (hdg : decode cc pc = .ok (.invokevirtual 392, 3)) (kk : ∀ (r : Int32) (τ1 : Sto) (H1 : Heap) (locs1 : List Loc), K r τ1 → tI D dA ad sz H0 τ1 H1 locs1 → W p l e R s m args below meth c H1 locs1 cells slots Q (F0 m (pc + 3) ls (.int r :: rest))) : W p l e R s m args below meth c H locs cells slots Q (F0 m pc ls (.ref (ad 0) :: rest)) :=
  rg_calli (rg_runV hC.1 hC.2.1 hI.1 hI.2.1 tl_0 rfl (met_thingMany l D dA ad hC.2.2 sz τ K hT) (lw_V q2207 q2209 qs102 q170 q2210) 0 (by decide +kernel) ⟨rfl, rfl⟩ hR rfl hsz rfl hroom hf hdg) hI.2.2 (fun r τ1 H1 l1 hk hz hP hS => kk r τ1 H1 l1 hk ⟨hP, hz, hS⟩)
set_option maxHeartbeats 4000000 in
set_option maxRecDepth 100000 in
theorem met_stateOf (l : Launch) (D : va_G) (dA : Nat → ClassId) (ad : Nat → Nat) (hJ : rgJ twL ad) (sz : Nat) (τ : Sto) (x1 : Int32) (K : Int32 → Sto → Prop) (hT : T_stateOf τ x1 K) : Met l yX6_stateOf (ws_ yX6_stateOf cX6_stateOf 2 (some .int)) ({ frames := 1, cells := 0, slots := 0, locals := 12 }) (va_Pc [.ref (ad 0), .int x1] (rgU D vwCl dA twL ad sz τ)) (va_Qi K (rgU D vwCl dA twL ad sz) (rgAd twL ad)) 0 0 (rgAd twL ad) := by
  refine tw_meti hJ (by decide) rfl (Nat.le_of_ble_eq_true rfl) ?_
  intro p e s m args below meth c Q hC hret hI ls hl
  have hx := hC.1.1
  have hb := hC.1.2.1
  have hl : lv_has ls 2 [(0, .ref (ad 0)), (1, .int x1)] := hl
  unfold T_stateOf at hT
  refine lv_aload_n hx hb dX6_stateOf_0 rfl (lv_at hl 0 rfl) ?_
  refine tg_51 hC hI dX6_stateOf_1 ?_
  refine lv_iconst (v := 1) hx hb dX6_stateOf_4 (by decide) ?_
  refine lv_iconst (v := 5) hx hb dX6_stateOf_5 (by decide) ?_
  refine lv_iload_n hx hb dX6_stateOf_6 rfl (lv_at hl 1 rfl) ?_
  refine lv_imul hx hb dX6_stateOf_7 ?_
  refine lv_iadd hx hb dX6_stateOf_8 ?_
  refine tw_iald hC hI tl_52 hT dX6_stateOf_9 (fun hT => ?_)
  exact hret _ _ _ _ _ _ hT hI dX6_stateOf_10
theorem tc_stateOf {p : Program} {l : Launch} {e : Env} {R : Room} {s : State} {m : MethodId} {args : Array Value} {below : List Frame} {meth : Method} {c : Code} {H : Heap} {locs : List Loc} {cells slots : Nat} {Q : State → Prop} {cc : ByteArray} {nL : Nat} {D : va_G} {dA : Nat → ClassId} {ad : Nat → Nat} {τ : Sto} {pc sz : Nat} {ls : Array Slot} {rest : List Value} {H0 : Heap} {x1 : Int32} {K : Int32 → Sto → Prop} (hC : tC p m c cc nL s args D dA ad) (hI : tI D dA ad sz H0 τ H locs) (hT : T_stateOf τ x1 K) (hR : 1 + 1 ≤ R.frames ∧ 8 + (2 + 11) + 12 ≤ R.locals) (hf : cells ≤ R.cells ∧ slots ≤ R.slots) (hsz : ls.size = nL) (hroom : (rest.map fun v => v.category).sum ≤ 8) (hdg : decode cc pc = .ok (.invokevirtual 398, 3)) (kk : ∀ (r : Int32) (τ1 : Sto) (H1 : Heap) (locs1 : List Loc), K r τ1 → tI D dA ad sz H0 τ1 H1 locs1 → W p l e R s m args below meth c H1 locs1 cells slots Q (F0 m (pc + 3) ls (.int r :: rest))) : W p l e R s m args below meth c H locs cells slots Q (F0 m pc ls (.int x1 :: .ref (ad 0) :: rest)) :=
  rg_calli (rg_runV hC.1 hC.2.1 hI.1 hI.2.1 tl_0 rfl (met_stateOf l D dA ad hC.2.2 sz τ x1 K hT) (lw_V q2211 q2213 qs103 q170 q2214) 1 (by decide +kernel) ⟨rfl, rfl⟩ hR rfl hsz rfl hroom hf hdg) hI.2.2 (fun r τ1 H1 l1 hk hz hP hS => kk r τ1 H1 l1 hk ⟨hP, hz, hS⟩)
set_option maxHeartbeats 4000000 in
set_option maxRecDepth 100000 in
theorem met_setOf (l : Launch) (D : va_G) (dA : Nat → ClassId) (ad : Nat → Nat) (hJ : rgJ twL ad) (sz : Nat) (τ : Sto) (x1 : Int32) (K : Int32 → Sto → Prop) (hT : T_setOf τ x1 K) : Met l yX6_setOf (ws_ yX6_setOf cX6_setOf 4 (some .int)) ({ frames := 2, cells := 0, slots := 0, locals := 33 }) (va_Pc [.ref (ad 0), .int x1] (rgU D vwCl dA twL ad sz τ)) (va_Qi K (rgU D vwCl dA twL ad sz) (rgAd twL ad)) 0 0 (rgAd twL ad) := by
  refine tw_meti hJ (by decide) rfl (Nat.le_of_ble_eq_true rfl) ?_
  intro p e s m args below meth c Q hC hret hI ls hl
  have hx := hC.1.1
  have hb := hC.1.2.1
  have hl : lv_has ls 4 [(0, .ref (ad 0)), (1, .int x1)] := hl
  have w_4 : ∀ (x1 : Int32) (n : Nat) (x2 : Int32) (x3 : Int32) (τ : Sto) (H : Heap) (locs : List Loc) (ls : Array Slot), T_setOf_4 K x1 n x2 x3 τ → tI D dA ad sz s.heap τ H locs → lv_has ls 4 [(0, .ref (ad 0)), (1, .int x1), (2, .int x2), (3, .int x3)] → W p l e ({ frames := 2, cells := 0, slots := 0, locals := 33 }) s m args below meth c H locs 0 0 Q (F0 m 4 ls []) := by
    intro x1 n
    induction n with
    | zero => intro x2 x3 τ H locs ls hT; exact hT.elim
    | succ n ih =>
      intro x2 x3 τ H locs ls hT hI hl
      unfold T_setOf_4 at hT
      refine lv_iload_n hx hb dX6_setOf_4 rfl (lv_at hl 3 rfl) ?_
      refine lv_aload_n hx hb dX6_setOf_5 rfl (lv_at hl 0 rfl) ?_
      refine tc_thingMany hC hI hT ⟨Nat.le_of_ble_eq_true rfl, Nat.le_of_ble_eq_true rfl⟩ ⟨Nat.zero_le _, Nat.zero_le _⟩ hl.1 (Nat.le_of_ble_eq_true rfl) dX6_setOf_6 (fun r2 τ1 H locs hT hI => ?_)
      refine lv_icmp_ge (tgt := 33) hx hb dX6_setOf_9 (by decide) (fun hc => ?_) (fun hc => ?_)
      · have hT := hT.1 hc
        refine lv_iload_n hx hb dX6_setOf_33 rfl (lv_at hl 2 rfl) ?_
        exact hret _ _ _ _ _ _ hT hI dX6_setOf_34
      · have hT := hT.2 hc
        refine lv_aload_n hx hb dX6_setOf_12 rfl (lv_at hl 0 rfl) ?_
        refine lv_iload_n hx hb dX6_setOf_13 rfl (lv_at hl 3 rfl) ?_
        refine tc_stateOf hC hI hT ⟨Nat.le_of_ble_eq_true rfl, Nat.le_of_ble_eq_true rfl⟩ ⟨Nat.zero_le _, Nat.zero_le _⟩ hl.1 (Nat.le_of_ble_eq_true rfl) dX6_setOf_14 (fun r4 τ3 H locs hT hI => ?_)
        refine lv_iload_n hx hb dX6_setOf_17 rfl (lv_at hl 1 rfl) ?_
        refine lv_icmp_ne (tgt := 27) hx hb dX6_setOf_18 (by decide) (fun hc => ?_) (fun hc => ?_)
        · have hT := hT.1 hc
          refine lv_iinc (v := x3 + 1) (lv' := [(3, .int (x3 + 1)), (0, .ref (ad 0)), (1, .int x1), (2, .int x2)]) hx hb dX6_setOf_27 hl (k := 3) rfl rfl (Nat.le_of_ble_eq_true rfl) rfl (fun ls hl => ?_)
          refine lv_goto (tgt := 4) hx hb dX6_setOf_30 (by decide) ?_
          exact ih x2 (x3 + 1) τ3 _ _ _ hT hI (lv_sub hl [1, 2, 3, 0] rfl)
        · have hT := hT.2 hc
          refine lv_iload_n hx hb dX6_setOf_21 rfl (lv_at hl 2 rfl) ?_
          refine lv_iconst (v := 1) hx hb dX6_setOf_22 (by decide) ?_
          refine lv_iload_n hx hb dX6_setOf_23 rfl (lv_at hl 3 rfl) ?_
          refine lv_ishl hx hb dX6_setOf_24 ?_
          refine lv_ior hx hb dX6_setOf_25 ?_
          refine lv_istore_n (lv' := [(2, .int (x2 ||| (1 <<< (x3 &&& 31)))), (0, .ref (ad 0)), (1, .int x1), (3, .int x3)]) hx hb dX6_setOf_26 rfl hl (Nat.le_of_ble_eq_true rfl) rfl (fun ls hl => ?_)
          refine lv_iinc (v := x3 + 1) (lv' := [(3, .int (x3 + 1)), (2, .int (x2 ||| (1 <<< (x3 &&& 31)))), (0, .ref (ad 0)), (1, .int x1)]) hx hb dX6_setOf_27 hl (k := 3) rfl rfl (Nat.le_of_ble_eq_true rfl) rfl (fun ls hl => ?_)
          refine lv_goto (tgt := 4) hx hb dX6_setOf_30 (by decide) ?_
          exact ih (x2 ||| (1 <<< (x3 &&& 31))) (x3 + 1) τ3 _ _ _ hT hI (lv_sub hl [2, 3, 1, 0] rfl)
  unfold T_setOf at hT
  refine lv_iconst (v := 0) hx hb dX6_setOf_0 (by decide) ?_
  refine lv_istore_n (lv' := [(2, .int 0), (0, .ref (ad 0)), (1, .int x1)]) hx hb dX6_setOf_1 rfl hl (Nat.le_of_ble_eq_true rfl) rfl (fun ls hl => ?_)
  refine lv_iconst (v := 0) hx hb dX6_setOf_2 (by decide) ?_
  refine lv_istore_n (lv' := [(3, .int 0), (2, .int 0), (0, .ref (ad 0)), (1, .int x1)]) hx hb dX6_setOf_3 rfl hl (Nat.le_of_ble_eq_true rfl) rfl (fun ls hl => ?_)
  obtain ⟨n4, hT⟩ := hT
  exact w_4 x1 n4 0 0 τ _ _ _ hT hI (lv_sub hl [2, 3, 1, 0] rfl)
theorem tc_setOf {p : Program} {l : Launch} {e : Env} {R : Room} {s : State} {m : MethodId} {args : Array Value} {below : List Frame} {meth : Method} {c : Code} {H : Heap} {locs : List Loc} {cells slots : Nat} {Q : State → Prop} {cc : ByteArray} {nL : Nat} {D : va_G} {dA : Nat → ClassId} {ad : Nat → Nat} {τ : Sto} {pc sz : Nat} {ls : Array Slot} {rest : List Value} {H0 : Heap} {x1 : Int32} {K : Int32 → Sto → Prop} (hC : tC p m c cc nL s args D dA ad) (hI : tI D dA ad sz H0 τ H locs) (hT : T_setOf τ x1 K) (hR : 2 + 1 ≤ R.frames ∧ 8 + (4 + 11) + 33 ≤ R.locals) (hf : cells ≤ R.cells ∧ slots ≤ R.slots) (hsz : ls.size = nL) (hroom : (rest.map fun v => v.category).sum ≤ 8) (hdg : decode cc pc = .ok (.invokevirtual 476, 3)) (kk : ∀ (r : Int32) (τ1 : Sto) (H1 : Heap) (locs1 : List Loc), K r τ1 → tI D dA ad sz H0 τ1 H1 locs1 → W p l e R s m args below meth c H1 locs1 cells slots Q (F0 m (pc + 3) ls (.int r :: rest))) : W p l e R s m args below meth c H locs cells slots Q (F0 m pc ls (.int x1 :: .ref (ad 0) :: rest)) :=
  rg_calli (rg_runV hC.1 hC.2.1 hI.1 hI.2.1 tl_0 rfl (met_setOf l D dA ad hC.2.2 sz τ x1 K hT) (lw_V q2203 q2205 qs101 q170 q2206) 1 (by decide +kernel) ⟨rfl, rfl⟩ hR rfl hsz rfl hroom hf hdg) hI.2.2 (fun r τ1 H1 l1 hk hz hP hS => kk r τ1 H1 l1 hk ⟨hP, hz, hS⟩)
set_option maxHeartbeats 4000000 in
set_option maxRecDepth 100000 in
theorem met_bits (l : Launch) (D : va_G) (dA : Nat → ClassId) (ad : Nat → Nat) (hJ : rgJ twL ad) (sz : Nat) (τ : Sto) (x0 : Int32) (K : Int32 → Sto → Prop) (hT : T_bits τ x0 K) : Met l yX6_bits (ws_ yX6_bits cX6_bits 3 (some .int)) ({ frames := 1, cells := 0, slots := 0, locals := 12 }) (va_Pc [.int x0] (rgU D vwCl dA twL ad sz τ)) (va_Qi K (rgU D vwCl dA twL ad sz) (rgAd twL ad)) 0 0 (rgAd twL ad) := by
  refine tw_meti hJ (by decide) rfl (Nat.le_of_ble_eq_true rfl) ?_
  intro p e s m args below meth c Q hC hret hI ls hl
  have hx := hC.1.1
  have hb := hC.1.2.1
  have hl : lv_has ls 3 [(0, .int x0)] := hl
  have w_4 : ∀ (n : Nat) (x1 : Int32) (x2 : Int32) (τ : Sto) (H : Heap) (locs : List Loc) (ls : Array Slot), T_bits_4 K n x1 x2 τ → tI D dA ad sz s.heap τ H locs → lv_has ls 3 [(1, .int x1), (2, .int x2)] → W p l e ({ frames := 1, cells := 0, slots := 0, locals := 12 }) s m args below meth c H locs 0 0 Q (F0 m 4 ls []) := by
    intro n
    induction n with
    | zero => intro x1 x2 τ H locs ls hT; exact hT.elim
    | succ n ih =>
      intro x1 x2 τ H locs ls hT hI hl
      unfold T_bits_4 at hT
      refine lv_iload_n hx hb dX6_bits_4 rfl (lv_at hl 1 rfl) ?_
      refine lv_if_eq (tgt := 20) hx hb dX6_bits_5 (by decide) (fun hc => ?_) (fun hc => ?_)
      · have hT := hT.1 hc
        refine lv_iload_n hx hb dX6_bits_20 rfl (lv_at hl 0 rfl) ?_
        exact hret _ _ _ _ _ _ hT hI dX6_bits_21
      · have hT := hT.2 hc
        refine lv_iinc (v := x1 + 1) (lv' := [(1, .int (x1 + 1)), (2, .int x2)]) hx hb dX6_bits_8 hl (k := 0) rfl rfl (Nat.le_of_ble_eq_true rfl) rfl (fun ls hl => ?_)
        refine lv_iload_n hx hb dX6_bits_11 rfl (lv_at hl 1 rfl) ?_
        refine lv_iload_n hx hb dX6_bits_12 rfl (lv_at hl 1 rfl) ?_
        refine lv_iconst (v := 1) hx hb dX6_bits_13 (by decide) ?_
        refine lv_isub hx hb dX6_bits_14 ?_
        refine lv_iand hx hb dX6_bits_15 ?_
        refine lv_istore_n (lv' := [(2, .int (x2 &&& (x2 - 1))), (1, .int (x1 + 1))]) hx hb dX6_bits_16 rfl hl (Nat.le_of_ble_eq_true rfl) rfl (fun ls hl => ?_)
        refine lv_goto (tgt := 4) hx hb dX6_bits_17 (by decide) ?_
        exact ih (x1 + 1) (x2 &&& (x2 - 1)) τ _ _ _ hT hI (lv_sub hl [1, 0] rfl)
  unfold T_bits at hT
  refine lv_iconst (v := 0) hx hb dX6_bits_0 (by decide) ?_
  refine lv_istore_n (lv' := [(1, .int 0), (0, .int x0)]) hx hb dX6_bits_1 rfl hl (Nat.le_of_ble_eq_true rfl) rfl (fun ls hl => ?_)
  refine lv_iload_n hx hb dX6_bits_2 rfl (lv_at hl 1 rfl) ?_
  refine lv_istore_n (lv' := [(2, .int x0), (1, .int 0), (0, .int x0)]) hx hb dX6_bits_3 rfl hl (Nat.le_of_ble_eq_true rfl) rfl (fun ls hl => ?_)
  obtain ⟨n4, hT⟩ := hT
  exact w_4 n4 0 x0 τ _ _ _ hT hI (lv_sub hl [1, 0] rfl)
theorem tc_bits {p : Program} {l : Launch} {e : Env} {R : Room} {s : State} {m : MethodId} {args : Array Value} {below : List Frame} {meth : Method} {c : Code} {H : Heap} {locs : List Loc} {cells slots : Nat} {Q : State → Prop} {cc : ByteArray} {nL : Nat} {D : va_G} {dA : Nat → ClassId} {ad : Nat → Nat} {τ : Sto} {pc sz : Nat} {ls : Array Slot} {rest : List Value} {H0 : Heap} {x0 : Int32} {K : Int32 → Sto → Prop} (hC : tC p m c cc nL s args D dA ad) (hI : tI D dA ad sz H0 τ H locs) (hT : T_bits τ x0 K) (hR : 1 + 1 ≤ R.frames ∧ 8 + (3 + 11) + 12 ≤ R.locals) (hf : cells ≤ R.cells ∧ slots ≤ R.slots) (hsz : ls.size = nL) (hroom : (rest.map fun v => v.category).sum ≤ 8) (hdg : decode cc pc = .ok (.invokestatic 479, 3)) (kk : ∀ (r : Int32) (τ1 : Sto) (H1 : Heap) (locs1 : List Loc), K r τ1 → tI D dA ad sz H0 τ1 H1 locs1 → W p l e R s m args below meth c H1 locs1 cells slots Q (F0 m (pc + 3) ls (.int r :: rest))) : W p l e R s m args below meth c H locs cells slots Q (F0 m pc ls (.int x0 :: rest)) :=
  rg_calli (rg_runS hC.1 hC.2.1 hI.1 hI.2.1 (met_bits l D dA ad hC.2.2 sz τ x0 K hT) (lw_S q2215 q2216 q170 q2217) 1 (by decide +kernel) ⟨rfl, rfl⟩ hR rfl hsz rfl hroom hf hdg) hI.2.2 (fun r τ1 H1 l1 hk hz hP hS => kk r τ1 H1 l1 hk ⟨hP, hz, hS⟩)
set_option maxHeartbeats 4000000 in
set_option maxRecDepth 100000 in
theorem met_isTold (l : Launch) (D : va_G) (dA : Nat → ClassId) (ad : Nat → Nat) (hJ : rgJ twL ad) (sz : Nat) (τ : Sto) (x1 : Int32) (K : Int32 → Sto → Prop) (hT : T_isTold τ x1 K) : Met l yX6_isTold (ws_ yX6_isTold cX6_isTold 2 (some .boolean)) ({ frames := 1, cells := 0, slots := 0, locals := 12 }) (va_Pc [.ref (ad 0), .int x1] (rgU D vwCl dA twL ad sz τ)) (va_Qi K (rgU D vwCl dA twL ad sz) (rgAd twL ad)) 0 0 (rgAd twL ad) := by
  refine tw_metz hJ (by decide) rfl (Nat.le_of_ble_eq_true rfl) ?_
  intro p e s m args below meth c Q hC hret hI ls hl
  have hx := hC.1.1
  have hb := hC.1.2.1
  have hl : lv_has ls 2 [(0, .ref (ad 0)), (1, .int x1)] := hl
  unfold T_isTold at hT
  refine lv_aload_n hx hb dX6_isTold_0 rfl (lv_at hl 0 rfl) ?_
  refine tg_45 hC hI dX6_isTold_1 ?_
  refine lv_bipush (v := 10) hx hb dX6_isTold_4 (by decide) ?_
  refine lv_iload_n hx hb dX6_isTold_6 rfl (lv_at hl 1 rfl) ?_
  refine lv_iadd hx hb dX6_isTold_7 ?_
  refine tw_iald hC hI tl_46 hT dX6_isTold_8 (fun hT => ?_)
  refine lv_iconst (v := -1) hx hb dX6_isTold_9 (by decide) ?_
  refine lv_icmp_eq (tgt := 17) hx hb dX6_isTold_10 (by decide) (fun hc => ?_) (fun hc => ?_)
  · have hT := hT.1 hc
    refine lv_iconst (v := 0) hx hb dX6_isTold_17 (by decide) ?_
    exact hret _ _ _ _ _ _ (by decide) hT hI dX6_isTold_18
  · have hT := hT.2 hc
    refine lv_iconst (v := 1) hx hb dX6_isTold_13 (by decide) ?_
    refine lv_goto (tgt := 18) hx hb dX6_isTold_14 (by decide) ?_
    exact hret _ _ _ _ _ _ (by decide) hT hI dX6_isTold_18
theorem tc_isTold {p : Program} {l : Launch} {e : Env} {R : Room} {s : State} {m : MethodId} {args : Array Value} {below : List Frame} {meth : Method} {c : Code} {H : Heap} {locs : List Loc} {cells slots : Nat} {Q : State → Prop} {cc : ByteArray} {nL : Nat} {D : va_G} {dA : Nat → ClassId} {ad : Nat → Nat} {τ : Sto} {pc sz : Nat} {ls : Array Slot} {rest : List Value} {H0 : Heap} {x1 : Int32} {K : Int32 → Sto → Prop} (hC : tC p m c cc nL s args D dA ad) (hI : tI D dA ad sz H0 τ H locs) (hT : T_isTold τ x1 K) (hR : 1 + 1 ≤ R.frames ∧ 8 + (2 + 11) + 12 ≤ R.locals) (hf : cells ≤ R.cells ∧ slots ≤ R.slots) (hsz : ls.size = nL) (hroom : (rest.map fun v => v.category).sum ≤ 8) (hdg : decode cc pc = .ok (.invokevirtual 415, 3)) (kk : ∀ (r : Int32) (τ1 : Sto) (H1 : Heap) (locs1 : List Loc), K r τ1 → tI D dA ad sz H0 τ1 H1 locs1 → W p l e R s m args below meth c H1 locs1 cells slots Q (F0 m (pc + 3) ls (.int r :: rest))) : W p l e R s m args below meth c H locs cells slots Q (F0 m pc ls (.int x1 :: .ref (ad 0) :: rest)) :=
  rg_calli (rg_runV hC.1 hC.2.1 hI.1 hI.2.1 tl_0 rfl (met_isTold l D dA ad hC.2.2 sz τ x1 K hT) (lw_V q2226 q2228 qs106 q170 q2229) 1 (by decide +kernel) ⟨rfl, rfl⟩ hR rfl hsz rfl hroom hf hdg) hI.2.2 (fun r τ1 H1 l1 hk hz hP hS => kk r τ1 H1 l1 hk ⟨hP, hz, hS⟩)
set_option maxHeartbeats 4000000 in
set_option maxRecDepth 100000 in
theorem met_qPuts (l : Launch) (D : va_G) (dA : Nat → ClassId) (ad : Nat → Nat) (hJ : rgJ twL ad) (sz : Nat) (τ : Sto) (x1 : Int64) (K : Sto → Prop) (hT : T_qPuts τ x1 K) : Met l yX6_qPuts (ws_ yX6_qPuts cX6_qPuts 3 (none)) ({ frames := 1, cells := 0, slots := 0, locals := 12 }) (va_Pc [.ref (ad 0), .long x1] (rgU D vwCl dA twL ad sz τ)) (va_Qv K (rgU D vwCl dA twL ad sz) (rgAd twL ad)) 0 0 (rgAd twL ad) := by
  refine tw_metv hJ (by decide) rfl (Nat.le_of_ble_eq_true rfl) ?_
  intro p e s m args below meth c Q hC hret hI ls hl
  have hx := hC.1.1
  have hb := hC.1.2.1
  have hl : lv_has ls 3 [(0, .ref (ad 0)), (1, .long x1)] := hl
  unfold T_qPuts at hT
  refine lv_aload_n hx hb dX6_qPuts_0 rfl (lv_at hl 0 rfl) ?_
  refine tg_97 hC hI dX6_qPuts_1 ?_
  refine lv_aload_n hx hb dX6_qPuts_4 rfl (lv_at hl 0 rfl) ?_
  refine tg_98 hC hI dX6_qPuts_5 ?_
  refine lv_lload_n hx hb dX6_qPuts_8 rfl (lv_at hl 1 rfl) ?_
  refine tw_last hC hI tl_98 hT dX6_qPuts_9 (fun τ1 H locs hT hI => ?_)
  refine lv_aload_n hx hb dX6_qPuts_10 rfl (lv_at hl 0 rfl) ?_
  refine lv_dup hx hb dX6_qPuts_11 rfl ?_
  refine tg_98 hC hI dX6_qPuts_12 ?_
  refine lv_iconst (v := 1) hx hb dX6_qPuts_15 (by decide) ?_
  refine lv_iadd hx hb dX6_qPuts_16 ?_
  refine tp_98 hC hI hT dX6_qPuts_17 (fun τ2 H locs hT hI => ?_)
  exact hret _ _ _ _ _ hT hI dX6_qPuts_20
theorem tc_qPuts {p : Program} {l : Launch} {e : Env} {R : Room} {s : State} {m : MethodId} {args : Array Value} {below : List Frame} {meth : Method} {c : Code} {H : Heap} {locs : List Loc} {cells slots : Nat} {Q : State → Prop} {cc : ByteArray} {nL : Nat} {D : va_G} {dA : Nat → ClassId} {ad : Nat → Nat} {τ : Sto} {pc sz : Nat} {ls : Array Slot} {rest : List Value} {H0 : Heap} {x1 : Int64} {K : Sto → Prop} (hC : tC p m c cc nL s args D dA ad) (hI : tI D dA ad sz H0 τ H locs) (hT : T_qPuts τ x1 K) (hR : 1 + 1 ≤ R.frames ∧ 8 + (3 + 11) + 12 ≤ R.locals) (hf : cells ≤ R.cells ∧ slots ≤ R.slots) (hsz : ls.size = nL) (hroom : (rest.map fun v => v.category).sum ≤ 8) (hdg : decode cc pc = .ok (.invokevirtual 404, 3)) (kk : ∀ (τ1 : Sto) (H1 : Heap) (locs1 : List Loc), K τ1 → tI D dA ad sz H0 τ1 H1 locs1 → W p l e R s m args below meth c H1 locs1 cells slots Q (F0 m (pc + 3) ls (rest))) : W p l e R s m args below meth c H locs cells slots Q (F0 m pc ls (.long x1 :: .ref (ad 0) :: rest)) :=
  rg_callv (rg_runV hC.1 hC.2.1 hI.1 hI.2.1 tl_0 rfl (met_qPuts l D dA ad hC.2.2 sz τ x1 K hT) (lw_V q2234 q2236 qs108 q170 q2237) 1 (by decide +kernel) ⟨rfl, rfl⟩ hR rfl hsz rfl hroom hf hdg) hI.2.2 (fun τ1 H1 l1 hk hz hP hS => kk τ1 H1 l1 hk ⟨hP, hz, hS⟩)
set_option maxHeartbeats 4000000 in
set_option maxRecDepth 100000 in
theorem met_useOf (l : Launch) (D : va_G) (dA : Nat → ClassId) (ad : Nat → Nat) (hJ : rgJ twL ad) (sz : Nat) (τ : Sto) (x1 : Int32) (K : Int32 → Sto → Prop) (hT : T_useOf τ x1 K) : Met l yX6_useOf (ws_ yX6_useOf cX6_useOf 2 (some .int)) ({ frames := 1, cells := 0, slots := 0, locals := 12 }) (va_Pc [.ref (ad 0), .int x1] (rgU D vwCl dA twL ad sz τ)) (va_Qi K (rgU D vwCl dA twL ad sz) (rgAd twL ad)) 0 0 (rgAd twL ad) := by
  refine tw_meti hJ (by decide) rfl (Nat.le_of_ble_eq_true rfl) ?_
  intro p e s m args below meth c Q hC hret hI ls hl
  have hx := hC.1.1
  have hb := hC.1.2.1
  have hl : lv_has ls 2 [(0, .ref (ad 0)), (1, .int x1)] := hl
  unfold T_useOf at hT
  refine lv_aload_n hx hb dX6_useOf_0 rfl (lv_at hl 0 rfl) ?_
  refine tg_41 hC hI dX6_useOf_1 ?_
  refine lv_bipush (v := 25) hx hb dX6_useOf_4 (by decide) ?_
  refine lv_iconst (v := 3) hx hb dX6_useOf_6 (by decide) ?_
  refine lv_iload_n hx hb dX6_useOf_7 rfl (lv_at hl 1 rfl) ?_
  refine lv_imul hx hb dX6_useOf_8 ?_
  refine lv_iadd hx hb dX6_useOf_9 ?_
  refine tw_iald hC hI tl_42 hT dX6_useOf_10 (fun hT => ?_)
  exact hret _ _ _ _ _ _ hT hI dX6_useOf_11
theorem tc_useOf {p : Program} {l : Launch} {e : Env} {R : Room} {s : State} {m : MethodId} {args : Array Value} {below : List Frame} {meth : Method} {c : Code} {H : Heap} {locs : List Loc} {cells slots : Nat} {Q : State → Prop} {cc : ByteArray} {nL : Nat} {D : va_G} {dA : Nat → ClassId} {ad : Nat → Nat} {τ : Sto} {pc sz : Nat} {ls : Array Slot} {rest : List Value} {H0 : Heap} {x1 : Int32} {K : Int32 → Sto → Prop} (hC : tC p m c cc nL s args D dA ad) (hI : tI D dA ad sz H0 τ H locs) (hT : T_useOf τ x1 K) (hR : 1 + 1 ≤ R.frames ∧ 8 + (2 + 11) + 12 ≤ R.locals) (hf : cells ≤ R.cells ∧ slots ≤ R.slots) (hsz : ls.size = nL) (hroom : (rest.map fun v => v.category).sum ≤ 8) (hdg : decode cc pc = .ok (.invokevirtual 429, 3)) (kk : ∀ (r : Int32) (τ1 : Sto) (H1 : Heap) (locs1 : List Loc), K r τ1 → tI D dA ad sz H0 τ1 H1 locs1 → W p l e R s m args below meth c H1 locs1 cells slots Q (F0 m (pc + 3) ls (.int r :: rest))) : W p l e R s m args below meth c H locs cells slots Q (F0 m pc ls (.int x1 :: .ref (ad 0) :: rest)) :=
  rg_calli (rg_runV hC.1 hC.2.1 hI.1 hI.2.1 tl_0 rfl (met_useOf l D dA ad hC.2.2 sz τ x1 K hT) (lw_V q2242 q2244 qs110 q170 q2245) 1 (by decide +kernel) ⟨rfl, rfl⟩ hR rfl hsz rfl hroom hf hdg) hI.2.2 (fun r τ1 H1 l1 hk hz hP hS => kk r τ1 H1 l1 hk ⟨hP, hz, hS⟩)
set_option maxHeartbeats 4000000 in
set_option maxRecDepth 100000 in
theorem met_brokeOf (l : Launch) (D : va_G) (dA : Nat → ClassId) (ad : Nat → Nat) (hJ : rgJ twL ad) (sz : Nat) (τ : Sto) (x1 : Int32) (K : Int32 → Sto → Prop) (hT : T_brokeOf τ x1 K) : Met l yX6_brokeOf (ws_ yX6_brokeOf cX6_brokeOf 2 (some .int)) ({ frames := 1, cells := 0, slots := 0, locals := 12 }) (va_Pc [.ref (ad 0), .int x1] (rgU D vwCl dA twL ad sz τ)) (va_Qi K (rgU D vwCl dA twL ad sz) (rgAd twL ad)) 0 0 (rgAd twL ad) := by
  refine tw_meti hJ (by decide) rfl (Nat.le_of_ble_eq_true rfl) ?_
  intro p e s m args below meth c Q hC hret hI ls hl
  have hx := hC.1.1
  have hb := hC.1.2.1
  have hl : lv_has ls 2 [(0, .ref (ad 0)), (1, .int x1)] := hl
  unfold T_brokeOf at hT
  refine lv_aload_n hx hb dX6_brokeOf_0 rfl (lv_at hl 0 rfl) ?_
  refine tg_51 hC hI dX6_brokeOf_1 ?_
  refine lv_iconst (v := 2) hx hb dX6_brokeOf_4 (by decide) ?_
  refine lv_iconst (v := 5) hx hb dX6_brokeOf_5 (by decide) ?_
  refine lv_iload_n hx hb dX6_brokeOf_6 rfl (lv_at hl 1 rfl) ?_
  refine lv_imul hx hb dX6_brokeOf_7 ?_
  refine lv_iadd hx hb dX6_brokeOf_8 ?_
  refine tw_iald hC hI tl_52 hT dX6_brokeOf_9 (fun hT => ?_)
  exact hret _ _ _ _ _ _ hT hI dX6_brokeOf_10
theorem tc_brokeOf {p : Program} {l : Launch} {e : Env} {R : Room} {s : State} {m : MethodId} {args : Array Value} {below : List Frame} {meth : Method} {c : Code} {H : Heap} {locs : List Loc} {cells slots : Nat} {Q : State → Prop} {cc : ByteArray} {nL : Nat} {D : va_G} {dA : Nat → ClassId} {ad : Nat → Nat} {τ : Sto} {pc sz : Nat} {ls : Array Slot} {rest : List Value} {H0 : Heap} {x1 : Int32} {K : Int32 → Sto → Prop} (hC : tC p m c cc nL s args D dA ad) (hI : tI D dA ad sz H0 τ H locs) (hT : T_brokeOf τ x1 K) (hR : 1 + 1 ≤ R.frames ∧ 8 + (2 + 11) + 12 ≤ R.locals) (hf : cells ≤ R.cells ∧ slots ≤ R.slots) (hsz : ls.size = nL) (hroom : (rest.map fun v => v.category).sum ≤ 8) (hdg : decode cc pc = .ok (.invokevirtual 656, 3)) (kk : ∀ (r : Int32) (τ1 : Sto) (H1 : Heap) (locs1 : List Loc), K r τ1 → tI D dA ad sz H0 τ1 H1 locs1 → W p l e R s m args below meth c H1 locs1 cells slots Q (F0 m (pc + 3) ls (.int r :: rest))) : W p l e R s m args below meth c H locs cells slots Q (F0 m pc ls (.int x1 :: .ref (ad 0) :: rest)) :=
  rg_calli (rg_runV hC.1 hC.2.1 hI.1 hI.2.1 tl_0 rfl (met_brokeOf l D dA ad hC.2.2 sz τ x1 K hT) (lw_V q2246 q2248 qs111 q170 q2249) 1 (by decide +kernel) ⟨rfl, rfl⟩ hR rfl hsz rfl hroom hf hdg) hI.2.2 (fun r τ1 H1 l1 hk hz hP hS => kk r τ1 H1 l1 hk ⟨hP, hz, hS⟩)
set_option maxHeartbeats 4000000 in
set_option maxRecDepth 100000 in
theorem met_mendsOf (l : Launch) (D : va_G) (dA : Nat → ClassId) (ad : Nat → Nat) (hJ : rgJ twL ad) (sz : Nat) (τ : Sto) (x1 : Int32) (K : Int32 → Sto → Prop) (hT : T_mendsOf τ x1 K) : Met l yX6_mendsOf (ws_ yX6_mendsOf cX6_mendsOf 2 (some .int)) ({ frames := 1, cells := 0, slots := 0, locals := 12 }) (va_Pc [.ref (ad 0), .int x1] (rgU D vwCl dA twL ad sz τ)) (va_Qi K (rgU D vwCl dA twL ad sz) (rgAd twL ad)) 0 0 (rgAd twL ad) := by
  refine tw_meti hJ (by decide) rfl (Nat.le_of_ble_eq_true rfl) ?_
  intro p e s m args below meth c Q hC hret hI ls hl
  have hx := hC.1.1
  have hb := hC.1.2.1
  have hl : lv_has ls 2 [(0, .ref (ad 0)), (1, .int x1)] := hl
  unfold T_mendsOf at hT
  refine lv_aload_n hx hb dX6_mendsOf_0 rfl (lv_at hl 0 rfl) ?_
  refine tg_51 hC hI dX6_mendsOf_1 ?_
  refine lv_iconst (v := 3) hx hb dX6_mendsOf_4 (by decide) ?_
  refine lv_iconst (v := 5) hx hb dX6_mendsOf_5 (by decide) ?_
  refine lv_iload_n hx hb dX6_mendsOf_6 rfl (lv_at hl 1 rfl) ?_
  refine lv_imul hx hb dX6_mendsOf_7 ?_
  refine lv_iadd hx hb dX6_mendsOf_8 ?_
  refine tw_iald hC hI tl_52 hT dX6_mendsOf_9 (fun hT => ?_)
  exact hret _ _ _ _ _ _ hT hI dX6_mendsOf_10
theorem tc_mendsOf {p : Program} {l : Launch} {e : Env} {R : Room} {s : State} {m : MethodId} {args : Array Value} {below : List Frame} {meth : Method} {c : Code} {H : Heap} {locs : List Loc} {cells slots : Nat} {Q : State → Prop} {cc : ByteArray} {nL : Nat} {D : va_G} {dA : Nat → ClassId} {ad : Nat → Nat} {τ : Sto} {pc sz : Nat} {ls : Array Slot} {rest : List Value} {H0 : Heap} {x1 : Int32} {K : Int32 → Sto → Prop} (hC : tC p m c cc nL s args D dA ad) (hI : tI D dA ad sz H0 τ H locs) (hT : T_mendsOf τ x1 K) (hR : 1 + 1 ≤ R.frames ∧ 8 + (2 + 11) + 12 ≤ R.locals) (hf : cells ≤ R.cells ∧ slots ≤ R.slots) (hsz : ls.size = nL) (hroom : (rest.map fun v => v.category).sum ≤ 8) (hdg : decode cc pc = .ok (.invokevirtual 421, 3)) (kk : ∀ (r : Int32) (τ1 : Sto) (H1 : Heap) (locs1 : List Loc), K r τ1 → tI D dA ad sz H0 τ1 H1 locs1 → W p l e R s m args below meth c H1 locs1 cells slots Q (F0 m (pc + 3) ls (.int r :: rest))) : W p l e R s m args below meth c H locs cells slots Q (F0 m pc ls (.int x1 :: .ref (ad 0) :: rest)) :=
  rg_calli (rg_runV hC.1 hC.2.1 hI.1 hI.2.1 tl_0 rfl (met_mendsOf l D dA ad hC.2.2 sz τ x1 K hT) (lw_V q2250 q2252 qs112 q170 q2253) 1 (by decide +kernel) ⟨rfl, rfl⟩ hR rfl hsz rfl hroom hf hdg) hI.2.2 (fun r τ1 H1 l1 hk hz hP hS => kk r τ1 H1 l1 hk ⟨hP, hz, hS⟩)
set_option maxHeartbeats 4000000 in
set_option maxRecDepth 100000 in
theorem met_glueOf (l : Launch) (D : va_G) (dA : Nat → ClassId) (ad : Nat → Nat) (hJ : rgJ twL ad) (sz : Nat) (τ : Sto) (x1 : Int32) (K : Int32 → Sto → Prop) (hT : T_glueOf τ x1 K) : Met l yX6_glueOf (ws_ yX6_glueOf cX6_glueOf 2 (some .int)) ({ frames := 1, cells := 0, slots := 0, locals := 12 }) (va_Pc [.ref (ad 0), .int x1] (rgU D vwCl dA twL ad sz τ)) (va_Qi K (rgU D vwCl dA twL ad sz) (rgAd twL ad)) 0 0 (rgAd twL ad) := by
  refine tw_meti hJ (by decide) rfl (Nat.le_of_ble_eq_true rfl) ?_
  intro p e s m args below meth c Q hC hret hI ls hl
  have hx := hC.1.1
  have hb := hC.1.2.1
  have hl : lv_has ls 2 [(0, .ref (ad 0)), (1, .int x1)] := hl
  unfold T_glueOf at hT
  refine lv_aload_n hx hb dX6_glueOf_0 rfl (lv_at hl 0 rfl) ?_
  refine tg_51 hC hI dX6_glueOf_1 ?_
  refine lv_iconst (v := 4) hx hb dX6_glueOf_4 (by decide) ?_
  refine lv_iconst (v := 5) hx hb dX6_glueOf_5 (by decide) ?_
  refine lv_iload_n hx hb dX6_glueOf_6 rfl (lv_at hl 1 rfl) ?_
  refine lv_imul hx hb dX6_glueOf_7 ?_
  refine lv_iadd hx hb dX6_glueOf_8 ?_
  refine tw_iald hC hI tl_52 hT dX6_glueOf_9 (fun hT => ?_)
  exact hret _ _ _ _ _ _ hT hI dX6_glueOf_10
theorem tc_glueOf {p : Program} {l : Launch} {e : Env} {R : Room} {s : State} {m : MethodId} {args : Array Value} {below : List Frame} {meth : Method} {c : Code} {H : Heap} {locs : List Loc} {cells slots : Nat} {Q : State → Prop} {cc : ByteArray} {nL : Nat} {D : va_G} {dA : Nat → ClassId} {ad : Nat → Nat} {τ : Sto} {pc sz : Nat} {ls : Array Slot} {rest : List Value} {H0 : Heap} {x1 : Int32} {K : Int32 → Sto → Prop} (hC : tC p m c cc nL s args D dA ad) (hI : tI D dA ad sz H0 τ H locs) (hT : T_glueOf τ x1 K) (hR : 1 + 1 ≤ R.frames ∧ 8 + (2 + 11) + 12 ≤ R.locals) (hf : cells ≤ R.cells ∧ slots ≤ R.slots) (hsz : ls.size = nL) (hroom : (rest.map fun v => v.category).sum ≤ 8) (hdg : decode cc pc = .ok (.invokevirtual 576, 3)) (kk : ∀ (r : Int32) (τ1 : Sto) (H1 : Heap) (locs1 : List Loc), K r τ1 → tI D dA ad sz H0 τ1 H1 locs1 → W p l e R s m args below meth c H1 locs1 cells slots Q (F0 m (pc + 3) ls (.int r :: rest))) : W p l e R s m args below meth c H locs cells slots Q (F0 m pc ls (.int x1 :: .ref (ad 0) :: rest)) :=
  rg_calli (rg_runV hC.1 hC.2.1 hI.1 hI.2.1 tl_0 rfl (met_glueOf l D dA ad hC.2.2 sz τ x1 K hT) (lw_V q2254 q2256 qs113 q170 q2257) 1 (by decide +kernel) ⟨rfl, rfl⟩ hR rfl hsz rfl hroom hf hdg) hI.2.2 (fun r τ1 H1 l1 hk hz hP hS => kk r τ1 H1 l1 hk ⟨hP, hz, hS⟩)
set_option maxHeartbeats 4000000 in
set_option maxRecDepth 100000 in
theorem met_isForged (l : Launch) (D : va_G) (dA : Nat → ClassId) (ad : Nat → Nat) (hJ : rgJ twL ad) (sz : Nat) (τ : Sto) (x1 : Int32) (K : Int32 → Sto → Prop) (hT : T_isForged τ x1 K) : Met l yX6_isForged (ws_ yX6_isForged cX6_isForged 2 (some .boolean)) ({ frames := 1, cells := 0, slots := 0, locals := 12 }) (va_Pc [.ref (ad 0), .int x1] (rgU D vwCl dA twL ad sz τ)) (va_Qi K (rgU D vwCl dA twL ad sz) (rgAd twL ad)) 0 0 (rgAd twL ad) := by
  refine tw_metz hJ (by decide) rfl (Nat.le_of_ble_eq_true rfl) ?_
  intro p e s m args below meth c Q hC hret hI ls hl
  have hx := hC.1.1
  have hb := hC.1.2.1
  have hl : lv_has ls 2 [(0, .ref (ad 0)), (1, .int x1)] := hl
  unfold T_isForged at hT
  refine lv_aload_n hx hb dX6_isForged_0 rfl (lv_at hl 0 rfl) ?_
  refine tg_51 hC hI dX6_isForged_1 ?_
  refine lv_iconst (v := 5) hx hb dX6_isForged_4 (by decide) ?_
  refine lv_iconst (v := 5) hx hb dX6_isForged_5 (by decide) ?_
  refine lv_iload_n hx hb dX6_isForged_6 rfl (lv_at hl 1 rfl) ?_
  refine lv_imul hx hb dX6_isForged_7 ?_
  refine lv_iadd hx hb dX6_isForged_8 ?_
  refine tw_iald hC hI tl_52 hT dX6_isForged_9 (fun hT => ?_)
  refine lv_iconst (v := 1) hx hb dX6_isForged_10 (by decide) ?_
  refine lv_icmp_ne (tgt := 18) hx hb dX6_isForged_11 (by decide) (fun hc => ?_) (fun hc => ?_)
  · have hT := hT.1 hc
    refine lv_iconst (v := 0) hx hb dX6_isForged_18 (by decide) ?_
    exact hret _ _ _ _ _ _ (by decide) hT hI dX6_isForged_19
  · have hT := hT.2 hc
    refine lv_iconst (v := 1) hx hb dX6_isForged_14 (by decide) ?_
    refine lv_goto (tgt := 19) hx hb dX6_isForged_15 (by decide) ?_
    exact hret _ _ _ _ _ _ (by decide) hT hI dX6_isForged_19
theorem tc_isForged {p : Program} {l : Launch} {e : Env} {R : Room} {s : State} {m : MethodId} {args : Array Value} {below : List Frame} {meth : Method} {c : Code} {H : Heap} {locs : List Loc} {cells slots : Nat} {Q : State → Prop} {cc : ByteArray} {nL : Nat} {D : va_G} {dA : Nat → ClassId} {ad : Nat → Nat} {τ : Sto} {pc sz : Nat} {ls : Array Slot} {rest : List Value} {H0 : Heap} {x1 : Int32} {K : Int32 → Sto → Prop} (hC : tC p m c cc nL s args D dA ad) (hI : tI D dA ad sz H0 τ H locs) (hT : T_isForged τ x1 K) (hR : 1 + 1 ≤ R.frames ∧ 8 + (2 + 11) + 12 ≤ R.locals) (hf : cells ≤ R.cells ∧ slots ≤ R.slots) (hsz : ls.size = nL) (hroom : (rest.map fun v => v.category).sum ≤ 8) (hdg : decode cc pc = .ok (.invokevirtual 473, 3)) (kk : ∀ (r : Int32) (τ1 : Sto) (H1 : Heap) (locs1 : List Loc), K r τ1 → tI D dA ad sz H0 τ1 H1 locs1 → W p l e R s m args below meth c H1 locs1 cells slots Q (F0 m (pc + 3) ls (.int r :: rest))) : W p l e R s m args below meth c H locs cells slots Q (F0 m pc ls (.int x1 :: .ref (ad 0) :: rest)) :=
  rg_calli (rg_runV hC.1 hC.2.1 hI.1 hI.2.1 tl_0 rfl (met_isForged l D dA ad hC.2.2 sz τ x1 K hT) (lw_V q2258 q2260 qs114 q170 q2261) 1 (by decide +kernel) ⟨rfl, rfl⟩ hR rfl hsz rfl hroom hf hdg) hI.2.2 (fun r τ1 H1 l1 hk hz hP hS => kk r τ1 H1 l1 hk ⟨hP, hz, hS⟩)
set_option maxHeartbeats 4000000 in
set_option maxRecDepth 100000 in
theorem met_qPartOf (l : Launch) (D : va_G) (dA : Nat → ClassId) (ad : Nat → Nat) (hJ : rgJ twL ad) (sz : Nat) (τ : Sto) (x1 : Int32) (x2 : Int32) (K : Int64 → Sto → Prop) (hT : T_qPartOf τ x1 x2 K) : Met l yX6_qPartOf (ws_ yX6_qPartOf cX6_qPartOf 3 (some .long)) ({ frames := 2, cells := 0, slots := 0, locals := 33 }) (va_Pc [.ref (ad 0), .int x1, .int x2] (rgU D vwCl dA twL ad sz τ)) (va_Ql K (rgU D vwCl dA twL ad sz) (rgAd twL ad)) 0 0 (rgAd twL ad) := by
  refine tw_metl hJ (by decide) rfl (Nat.le_of_ble_eq_true rfl) ?_
  intro p e s m args below meth c Q hC hret hI ls hl
  have hx := hC.1.1
  have hb := hC.1.2.1
  have hl : lv_has ls 3 [(0, .ref (ad 0)), (1, .int x1), (2, .int x2)] := hl
  unfold T_qPartOf at hT
  refine lv_iload_n hx hb dX6_qPartOf_0 rfl (lv_at hl 1 rfl) ?_
  by_cases c0 : x1 = 0
  · have hT := hT.1 c0
    refine lv_tableIn (tgt := 52) hx hb dX6_qPartOf_1 (by rw [c0]; decide) (by rw [c0]; decide) (by rw [c0]; rfl) (by decide) ?_
    refine lv_aload_n hx hb dX6_qPartOf_52 rfl (lv_at hl 0 rfl) ?_
    refine tg_41 hC hI dX6_qPartOf_53 ?_
    refine lv_bipush (v := 24) hx hb dX6_qPartOf_56 (by decide) ?_
    refine lv_iconst (v := 3) hx hb dX6_qPartOf_58 (by decide) ?_
    refine lv_iload_n hx hb dX6_qPartOf_59 rfl (lv_at hl 2 rfl) ?_
    refine lv_imul hx hb dX6_qPartOf_60 ?_
    refine lv_iadd hx hb dX6_qPartOf_61 ?_
    refine tw_iald hC hI tl_42 hT dX6_qPartOf_62 (fun hT => ?_)
    refine lv_i2l hx hb dX6_qPartOf_63 rfl ?_
    exact hret _ _ _ _ _ _ hT hI dX6_qPartOf_64
  have hT := hT.2 c0
  by_cases c1 : x1 = 1
  · have hT := hT.1 c1
    refine lv_tableIn (tgt := 65) hx hb dX6_qPartOf_1 (by rw [c1]; decide) (by rw [c1]; decide) (by rw [c1]; rfl) (by decide) ?_
    refine lv_aload_n hx hb dX6_qPartOf_65 rfl (lv_at hl 0 rfl) ?_
    refine lv_iload_n hx hb dX6_qPartOf_66 rfl (lv_at hl 2 rfl) ?_
    refine tc_useOf hC hI hT ⟨Nat.le_of_ble_eq_true rfl, Nat.le_of_ble_eq_true rfl⟩ ⟨Nat.zero_le _, Nat.zero_le _⟩ hl.1 (Nat.le_of_ble_eq_true rfl) dX6_qPartOf_67 (fun r2 τ1 H locs hT hI => ?_)
    refine lv_i2l hx hb dX6_qPartOf_70 rfl ?_
    exact hret _ _ _ _ _ _ hT hI dX6_qPartOf_71
  have hT := hT.2 c1
  by_cases c2 : x1 = 2
  · have hT := hT.1 c2
    refine lv_tableIn (tgt := 72) hx hb dX6_qPartOf_1 (by rw [c2]; decide) (by rw [c2]; decide) (by rw [c2]; rfl) (by decide) ?_
    refine lv_iload_n hx hb dX6_qPartOf_72 rfl (lv_at hl 2 rfl) ?_
    refine lv_aload_n hx hb dX6_qPartOf_73 rfl (lv_at hl 0 rfl) ?_
    refine tg_53 hC hI dX6_qPartOf_74 ?_
    refine lv_icmp_ne (tgt := 88) hx hb dX6_qPartOf_77 (by decide) (fun hc => ?_) (fun hc => ?_)
    · have hT := hT.1 hc
      refine lv_aload_n hx hb dX6_qPartOf_88 rfl (lv_at hl 0 rfl) ?_
      refine tg_41 hC hI dX6_qPartOf_89 ?_
      refine lv_bipush (v := 26) hx hb dX6_qPartOf_92 (by decide) ?_
      refine lv_iconst (v := 3) hx hb dX6_qPartOf_94 (by decide) ?_
      refine lv_iload_n hx hb dX6_qPartOf_95 rfl (lv_at hl 2 rfl) ?_
      refine lv_imul hx hb dX6_qPartOf_96 ?_
      refine lv_iadd hx hb dX6_qPartOf_97 ?_
      refine tw_iald hC hI tl_42 hT dX6_qPartOf_98 (fun hT => ?_)
      refine lv_i2l hx hb dX6_qPartOf_99 rfl ?_
      exact hret _ _ _ _ _ _ hT hI dX6_qPartOf_100
    · have hT := hT.2 hc
      refine lv_aload_n hx hb dX6_qPartOf_80 rfl (lv_at hl 0 rfl) ?_
      refine tg_54 hC hI dX6_qPartOf_81 ?_
      refine lv_i2l hx hb dX6_qPartOf_84 rfl ?_
      refine lv_goto (tgt := 100) hx hb dX6_qPartOf_85 (by decide) ?_
      exact hret _ _ _ _ _ _ hT hI dX6_qPartOf_100
  have hT := hT.2 c2
  by_cases c3 : x1 = 3
  · have hT := hT.1 c3
    refine lv_tableIn (tgt := 101) hx hb dX6_qPartOf_1 (by rw [c3]; decide) (by rw [c3]; decide) (by rw [c3]; rfl) (by decide) ?_
    refine lv_aload_n hx hb dX6_qPartOf_101 rfl (lv_at hl 0 rfl) ?_
    refine lv_iload_n hx hb dX6_qPartOf_102 rfl (lv_at hl 2 rfl) ?_
    refine tc_brokeOf hC hI hT ⟨Nat.le_of_ble_eq_true rfl, Nat.le_of_ble_eq_true rfl⟩ ⟨Nat.zero_le _, Nat.zero_le _⟩ hl.1 (Nat.le_of_ble_eq_true rfl) dX6_qPartOf_103 (fun r4 τ3 H locs hT hI => ?_)
    refine lv_i2l hx hb dX6_qPartOf_106 rfl ?_
    exact hret _ _ _ _ _ _ hT hI dX6_qPartOf_107
  have hT := hT.2 c3
  by_cases c4 : x1 = 4
  · have hT := hT.1 c4
    refine lv_tableIn (tgt := 108) hx hb dX6_qPartOf_1 (by rw [c4]; decide) (by rw [c4]; decide) (by rw [c4]; rfl) (by decide) ?_
    refine lv_aload_n hx hb dX6_qPartOf_108 rfl (lv_at hl 0 rfl) ?_
    refine lv_iload_n hx hb dX6_qPartOf_109 rfl (lv_at hl 2 rfl) ?_
    refine tc_mendsOf hC hI hT ⟨Nat.le_of_ble_eq_true rfl, Nat.le_of_ble_eq_true rfl⟩ ⟨Nat.zero_le _, Nat.zero_le _⟩ hl.1 (Nat.le_of_ble_eq_true rfl) dX6_qPartOf_110 (fun r6 τ5 H locs hT hI => ?_)
    refine lv_i2l hx hb dX6_qPartOf_113 rfl ?_
    exact hret _ _ _ _ _ _ hT hI dX6_qPartOf_114
  have hT := hT.2 c4
  by_cases c5 : x1 = 5
  · have hT := hT.1 c5
    refine lv_tableIn (tgt := 115) hx hb dX6_qPartOf_1 (by rw [c5]; decide) (by rw [c5]; decide) (by rw [c5]; rfl) (by decide) ?_
    refine lv_aload_n hx hb dX6_qPartOf_115 rfl (lv_at hl 0 rfl) ?_
    refine tg_51 hC hI dX6_qPartOf_116 ?_
    refine lv_iconst (v := 0) hx hb dX6_qPartOf_119 (by decide) ?_
    refine tw_iald hC hI tl_52 hT dX6_qPartOf_120 (fun hT => ?_)
    refine lv_i2l hx hb dX6_qPartOf_121 rfl ?_
    exact hret _ _ _ _ _ _ hT hI dX6_qPartOf_122
  have hT := hT.2 c5
  by_cases c6 : x1 = 6
  · have hT := hT.1 c6
    refine lv_tableIn (tgt := 123) hx hb dX6_qPartOf_1 (by rw [c6]; decide) (by rw [c6]; decide) (by rw [c6]; rfl) (by decide) ?_
    refine lv_aload_n hx hb dX6_qPartOf_123 rfl (lv_at hl 0 rfl) ?_
    refine lv_iload_n hx hb dX6_qPartOf_124 rfl (lv_at hl 2 rfl) ?_
    refine tc_glueOf hC hI hT ⟨Nat.le_of_ble_eq_true rfl, Nat.le_of_ble_eq_true rfl⟩ ⟨Nat.zero_le _, Nat.zero_le _⟩ hl.1 (Nat.le_of_ble_eq_true rfl) dX6_qPartOf_125 (fun r8 τ7 H locs hT hI => ?_)
    refine lv_i2l hx hb dX6_qPartOf_128 rfl ?_
    exact hret _ _ _ _ _ _ hT hI dX6_qPartOf_129
  have hT := hT.2 c6
  by_cases c7 : x1 = 7
  · have hT := hT.1 c7
    refine lv_tableIn (tgt := 130) hx hb dX6_qPartOf_1 (by rw [c7]; decide) (by rw [c7]; decide) (by rw [c7]; rfl) (by decide) ?_
    refine lv_aload_n hx hb dX6_qPartOf_130 rfl (lv_at hl 0 rfl) ?_
    refine tg_55 hC hI dX6_qPartOf_131 ?_
    refine lv_i2l hx hb dX6_qPartOf_134 rfl ?_
    exact hret _ _ _ _ _ _ hT hI dX6_qPartOf_135
  have hT := hT.2 c7
  by_cases c8 : x1 = 8
  · have hT := hT.1 c8
    refine lv_tableIn (tgt := 136) hx hb dX6_qPartOf_1 (by rw [c8]; decide) (by rw [c8]; decide) (by rw [c8]; rfl) (by decide) ?_
    refine lv_iload_n hx hb dX6_qPartOf_136 rfl (lv_at hl 2 rfl) ?_
    refine lv_i2l hx hb dX6_qPartOf_137 rfl ?_
    exact hret _ _ _ _ _ _ hT hI dX6_qPartOf_138
  have hT := hT.2 c8
  refine lv_tableOut (tgt := 139) hx hb dX6_qPartOf_1 (ts_out0 (n := 9) (by decide) (fun k hk => by rcases (show k = 0 ∨ k = 1 ∨ k = 2 ∨ k = 3 ∨ k = 4 ∨ k = 5 ∨ k = 6 ∨ k = 7 ∨ k = 8 by omega) with rfl | rfl | rfl | rfl | rfl | rfl | rfl | rfl | rfl <;> assumption)) (by decide) ?_
  refine lv_aload_n hx hb dX6_qPartOf_139 rfl (lv_at hl 0 rfl) ?_
  refine lv_iload_n hx hb dX6_qPartOf_140 rfl (lv_at hl 2 rfl) ?_
  refine tc_isForged hC hI hT ⟨Nat.le_of_ble_eq_true rfl, Nat.le_of_ble_eq_true rfl⟩ ⟨Nat.zero_le _, Nat.zero_le _⟩ hl.1 (Nat.le_of_ble_eq_true rfl) dX6_qPartOf_141 (fun r10 τ9 H locs hT hI => ?_)
  refine lv_if_eq (tgt := 151) hx hb dX6_qPartOf_144 (by decide) (fun hc => ?_) (fun hc => ?_)
  · have hT := hT.1 hc
    refine lv_lconst (v := 0) hx hb dX6_qPartOf_151 (by decide) ?_
    exact hret _ _ _ _ _ _ hT hI dX6_qPartOf_152
  · have hT := hT.2 hc
    refine lv_lconst (v := 1) hx hb dX6_qPartOf_147 (by decide) ?_
    refine lv_goto (tgt := 152) hx hb dX6_qPartOf_148 (by decide) ?_
    exact hret _ _ _ _ _ _ hT hI dX6_qPartOf_152
theorem tc_qPartOf {p : Program} {l : Launch} {e : Env} {R : Room} {s : State} {m : MethodId} {args : Array Value} {below : List Frame} {meth : Method} {c : Code} {H : Heap} {locs : List Loc} {cells slots : Nat} {Q : State → Prop} {cc : ByteArray} {nL : Nat} {D : va_G} {dA : Nat → ClassId} {ad : Nat → Nat} {τ : Sto} {pc sz : Nat} {ls : Array Slot} {rest : List Value} {H0 : Heap} {x1 : Int32} {x2 : Int32} {K : Int64 → Sto → Prop} (hC : tC p m c cc nL s args D dA ad) (hI : tI D dA ad sz H0 τ H locs) (hT : T_qPartOf τ x1 x2 K) (hR : 2 + 1 ≤ R.frames ∧ 8 + (3 + 11) + 33 ≤ R.locals) (hf : cells ≤ R.cells ∧ slots ≤ R.slots) (hsz : ls.size = nL) (hroom : (rest.map fun v => v.category).sum ≤ 8) (hdg : decode cc pc = .ok (.invokevirtual 408, 3)) (kk : ∀ (r : Int64) (τ1 : Sto) (H1 : Heap) (locs1 : List Loc), K r τ1 → tI D dA ad sz H0 τ1 H1 locs1 → W p l e R s m args below meth c H1 locs1 cells slots Q (F0 m (pc + 3) ls (.long r :: rest))) : W p l e R s m args below meth c H locs cells slots Q (F0 m pc ls (.int x2 :: .int x1 :: .ref (ad 0) :: rest)) :=
  rg_calll (rg_runV hC.1 hC.2.1 hI.1 hI.2.1 tl_0 rfl (met_qPartOf l D dA ad hC.2.2 sz τ x1 x2 K hT) (lw_V q2238 q2240 qs109 q170 q2241) 2 (by decide +kernel) ⟨rfl, rfl⟩ hR rfl hsz rfl hroom hf hdg) hI.2.2 (fun r τ1 H1 l1 hk hz hP hS => kk r τ1 H1 l1 hk ⟨hP, hz, hS⟩)
set_option maxHeartbeats 4000000 in
set_option maxRecDepth 100000 in
theorem met_qClip (l : Launch) (D : va_G) (dA : Nat → ClassId) (ad : Nat → Nat) (hJ : rgJ twL ad) (sz : Nat) (τ : Sto) (x0 : Int64) (K : Int64 → Sto → Prop) (hT : T_qClip τ x0 K) : Met l yX6_qClip (ws_ yX6_qClip cX6_qClip 2 (some .long)) ({ frames := 1, cells := 0, slots := 0, locals := 12 }) (va_Pc [.long x0] (rgU D vwCl dA twL ad sz τ)) (va_Ql K (rgU D vwCl dA twL ad sz) (rgAd twL ad)) 0 0 (rgAd twL ad) := by
  refine tw_metl hJ (by decide) rfl (Nat.le_of_ble_eq_true rfl) ?_
  intro p e s m args below meth c Q hC hret hI ls hl
  have hx := hC.1.1
  have hb := hC.1.2.1
  have hl : lv_has ls 2 [(0, .long x0)] := hl
  unfold T_qClip at hT
  refine lv_lload_n hx hb dX6_qClip_0 rfl (lv_at hl 0 rfl) ?_
  refine lv_ldc2 hx hb hC.1.2.2.2.1 (hC.1.2.2.2.2 _ q2269) dX6_qClip_1 ?_
  refine rl_le (tgt := 14) hx hb dX6_qClip_4 dX6_qClip_5 (by decide) (fun hc => ?_) (fun hc => ?_)
  · have hT := hT.1 hc
    refine lv_lload_n hx hb dX6_qClip_14 rfl (lv_at hl 0 rfl) ?_
    refine lv_ldc2 hx hb hC.1.2.2.2.1 (hC.1.2.2.2.2 _ q2270) dX6_qClip_15 ?_
    refine rl_ge (tgt := 28) hx hb dX6_qClip_18 dX6_qClip_19 (by decide) (fun hc => ?_) (fun hc => ?_)
    · have hT := hT.1 hc
      refine lv_lload_n hx hb dX6_qClip_28 rfl (lv_at hl 0 rfl) ?_
      exact hret _ _ _ _ _ _ hT hI dX6_qClip_29
    · have hT := hT.2 hc
      refine lv_ldc2 hx hb hC.1.2.2.2.1 (hC.1.2.2.2.2 _ q2270) dX6_qClip_22 ?_
      refine lv_goto (tgt := 29) hx hb dX6_qClip_25 (by decide) ?_
      exact hret _ _ _ _ _ _ hT hI dX6_qClip_29
  · have hT := hT.2 hc
    refine lv_ldc2 hx hb hC.1.2.2.2.1 (hC.1.2.2.2.2 _ q2269) dX6_qClip_8 ?_
    refine lv_goto (tgt := 29) hx hb dX6_qClip_11 (by decide) ?_
    exact hret _ _ _ _ _ _ hT hI dX6_qClip_29
theorem tc_qClip {p : Program} {l : Launch} {e : Env} {R : Room} {s : State} {m : MethodId} {args : Array Value} {below : List Frame} {meth : Method} {c : Code} {H : Heap} {locs : List Loc} {cells slots : Nat} {Q : State → Prop} {cc : ByteArray} {nL : Nat} {D : va_G} {dA : Nat → ClassId} {ad : Nat → Nat} {τ : Sto} {pc sz : Nat} {ls : Array Slot} {rest : List Value} {H0 : Heap} {x0 : Int64} {K : Int64 → Sto → Prop} (hC : tC p m c cc nL s args D dA ad) (hI : tI D dA ad sz H0 τ H locs) (hT : T_qClip τ x0 K) (hR : 1 + 1 ≤ R.frames ∧ 8 + (2 + 11) + 12 ≤ R.locals) (hf : cells ≤ R.cells ∧ slots ≤ R.slots) (hsz : ls.size = nL) (hroom : (rest.map fun v => v.category).sum ≤ 8) (hdg : decode cc pc = .ok (.invokestatic 648, 3)) (kk : ∀ (r : Int64) (τ1 : Sto) (H1 : Heap) (locs1 : List Loc), K r τ1 → tI D dA ad sz H0 τ1 H1 locs1 → W p l e R s m args below meth c H1 locs1 cells slots Q (F0 m (pc + 3) ls (.long r :: rest))) : W p l e R s m args below meth c H locs cells slots Q (F0 m pc ls (.long x0 :: rest)) :=
  rg_calll (rg_runS hC.1 hC.2.1 hI.1 hI.2.1 (met_qClip l D dA ad hC.2.2 sz τ x0 K hT) (lw_S q2266 q2267 q170 q2268) 1 (by decide +kernel) ⟨rfl, rfl⟩ hR rfl hsz rfl hroom hf hdg) hI.2.2 (fun r τ1 H1 l1 hk hz hP hS => kk r τ1 H1 l1 hk ⟨hP, hz, hS⟩)
set_option maxHeartbeats 4000000 in
set_option maxRecDepth 100000 in
theorem met_qFloor (l : Launch) (D : va_G) (dA : Nat → ClassId) (ad : Nat → Nat) (hJ : rgJ twL ad) (sz : Nat) (τ : Sto) (x0 : Int64) (x2 : Int64) (K : Int64 → Sto → Prop) (hT : T_qFloor τ x0 x2 K) : Met l yX6_qFloor (ws_ yX6_qFloor cX6_qFloor 6 (some .long)) ({ frames := 1, cells := 0, slots := 0, locals := 12 }) (va_Pc [.long x0, .long x2] (rgU D vwCl dA twL ad sz τ)) (va_Ql K (rgU D vwCl dA twL ad sz) (rgAd twL ad)) 0 0 (rgAd twL ad) := by
  refine tw_metl hJ (by decide) rfl (Nat.le_of_ble_eq_true rfl) ?_
  intro p e s m args below meth c Q hC hret hI ls hl
  have hx := hC.1.1
  have hb := hC.1.2.1
  have hl : lv_has ls 6 [(0, .long x0), (2, .long x2)] := hl
  have w_32 : ∀ (x2 : Int64) (x4 : Int64) (s0 : Int32) (τ : Sto) (H : Heap) (locs : List Loc) (ls : Array Slot), T_qFloor_32 K x2 x4 s0 τ → tI D dA ad sz s.heap τ H locs → lv_has ls 6 [(2, .long x2), (4, .long x4)] → W p l e ({ frames := 1, cells := 0, slots := 0, locals := 12 }) s m args below meth c H locs 0 0 Q (F0 m 32 ls [.int s0]) := by
    intro x2 x4 s0 τ H locs ls hT hI hl
    unfold T_qFloor_32 at hT
    refine lv_lload_n hx hb dX6_qFloor_32 rfl (lv_at hl 0 rfl) ?_
    refine lv_lconst (v := 0) hx hb dX6_qFloor_33 (by decide) ?_
    refine rl_ge (tgt := 42) hx hb dX6_qFloor_34 dX6_qFloor_35 (by decide) (fun hc => ?_) (fun hc => ?_)
    · have hT := hT.1 hc
      refine lv_iconst (v := 0) hx hb dX6_qFloor_42 (by decide) ?_
      refine lv_icmp_eq (tgt := 53) hx hb dX6_qFloor_43 (by decide) (fun hc => ?_) (fun hc => ?_)
      · have hT := hT.1 hc
        refine lv_lload hx hb dX6_qFloor_53 (lv_at hl 1 rfl) ?_
        exact hret _ _ _ _ _ _ hT hI dX6_qFloor_55
      · have hT := hT.2 hc
        refine lv_lload hx hb dX6_qFloor_46 (lv_at hl 1 rfl) ?_
        refine lv_lconst (v := 1) hx hb dX6_qFloor_48 (by decide) ?_
        refine lv_lsub hx hb dX6_qFloor_49 ?_
        refine lv_goto (tgt := 55) hx hb dX6_qFloor_50 (by decide) ?_
        exact hret _ _ _ _ _ _ hT hI dX6_qFloor_55
    · have hT := hT.2 hc
      refine lv_iconst (v := 1) hx hb dX6_qFloor_38 (by decide) ?_
      refine lv_goto (tgt := 43) hx hb dX6_qFloor_39 (by decide) ?_
      refine lv_icmp_eq (tgt := 53) hx hb dX6_qFloor_43 (by decide) (fun hc => ?_) (fun hc => ?_)
      · have hT := hT.1 hc
        refine lv_lload hx hb dX6_qFloor_53 (lv_at hl 1 rfl) ?_
        exact hret _ _ _ _ _ _ hT hI dX6_qFloor_55
      · have hT := hT.2 hc
        refine lv_lload hx hb dX6_qFloor_46 (lv_at hl 1 rfl) ?_
        refine lv_lconst (v := 1) hx hb dX6_qFloor_48 (by decide) ?_
        refine lv_lsub hx hb dX6_qFloor_49 ?_
        refine lv_goto (tgt := 55) hx hb dX6_qFloor_50 (by decide) ?_
        exact hret _ _ _ _ _ _ hT hI dX6_qFloor_55
  unfold T_qFloor at hT
  refine lv_lload_n hx hb dX6_qFloor_0 rfl (lv_at hl 1 rfl) ?_
  refine lv_lconst (v := 0) hx hb dX6_qFloor_1 (by decide) ?_
  refine rl_ne (tgt := 8) hx hb dX6_qFloor_2 dX6_qFloor_3 (by decide) (fun hc => ?_) (fun hc => ?_)
  · have hT := hT.1 hc
    refine lv_lload_n hx hb dX6_qFloor_8 rfl (lv_at hl 0 rfl) ?_
    refine lv_lload_n hx hb dX6_qFloor_9 rfl (lv_at hl 1 rfl) ?_
    refine lv_ldiv hx hb dX6_qFloor_10 hT.1 ?_
    have hT := hT.2
    refine lv_lstore (lv' := [(4, .long (x0 / x2)), (0, .long x0), (2, .long x2)]) hx hb dX6_qFloor_11 hl (Nat.le_of_ble_eq_true rfl) rfl (fun ls hl => ?_)
    refine lv_lload_n hx hb dX6_qFloor_13 rfl (lv_at hl 1 rfl) ?_
    refine lv_lload_n hx hb dX6_qFloor_14 rfl (lv_at hl 2 rfl) ?_
    refine lv_lrem hx hb dX6_qFloor_15 hT.1 ?_
    have hT := hT.2
    refine lv_lconst (v := 0) hx hb dX6_qFloor_16 (by decide) ?_
    refine rl_eq (tgt := 53) hx hb dX6_qFloor_17 dX6_qFloor_18 (by decide) (fun hc => ?_) (fun hc => ?_)
    · have hT := hT.1 hc
      refine lv_lload hx hb dX6_qFloor_53 (lv_at hl 0 rfl) ?_
      exact hret _ _ _ _ _ _ hT hI dX6_qFloor_55
    · have hT := hT.2 hc
      refine lv_lload_n hx hb dX6_qFloor_21 rfl (lv_at hl 1 rfl) ?_
      refine lv_lconst (v := 0) hx hb dX6_qFloor_22 (by decide) ?_
      refine rl_ge (tgt := 31) hx hb dX6_qFloor_23 dX6_qFloor_24 (by decide) (fun hc => ?_) (fun hc => ?_)
      · have hT := hT.1 hc
        refine lv_iconst (v := 0) hx hb dX6_qFloor_31 (by decide) ?_
        exact w_32 x2 (x0 / x2) 0 τ _ _ _ hT hI (lv_sub hl [2, 0] rfl)
      · have hT := hT.2 hc
        refine lv_iconst (v := 1) hx hb dX6_qFloor_27 (by decide) ?_
        refine lv_goto (tgt := 32) hx hb dX6_qFloor_28 (by decide) ?_
        exact w_32 x2 (x0 / x2) 1 τ _ _ _ hT hI (lv_sub hl [2, 0] rfl)
  · have hT := hT.2 hc
    refine lv_lconst (v := 0) hx hb dX6_qFloor_6 (by decide) ?_
    exact hret _ _ _ _ _ _ hT hI dX6_qFloor_7
theorem tc_qFloor {p : Program} {l : Launch} {e : Env} {R : Room} {s : State} {m : MethodId} {args : Array Value} {below : List Frame} {meth : Method} {c : Code} {H : Heap} {locs : List Loc} {cells slots : Nat} {Q : State → Prop} {cc : ByteArray} {nL : Nat} {D : va_G} {dA : Nat → ClassId} {ad : Nat → Nat} {τ : Sto} {pc sz : Nat} {ls : Array Slot} {rest : List Value} {H0 : Heap} {x0 : Int64} {x2 : Int64} {K : Int64 → Sto → Prop} (hC : tC p m c cc nL s args D dA ad) (hI : tI D dA ad sz H0 τ H locs) (hT : T_qFloor τ x0 x2 K) (hR : 1 + 1 ≤ R.frames ∧ 8 + (6 + 11) + 12 ≤ R.locals) (hf : cells ≤ R.cells ∧ slots ≤ R.slots) (hsz : ls.size = nL) (hroom : (rest.map fun v => v.category).sum ≤ 8) (hdg : decode cc pc = .ok (.invokestatic 652, 3)) (kk : ∀ (r : Int64) (τ1 : Sto) (H1 : Heap) (locs1 : List Loc), K r τ1 → tI D dA ad sz H0 τ1 H1 locs1 → W p l e R s m args below meth c H1 locs1 cells slots Q (F0 m (pc + 3) ls (.long r :: rest))) : W p l e R s m args below meth c H locs cells slots Q (F0 m pc ls (.long x2 :: .long x0 :: rest)) :=
  rg_calll (rg_runS hC.1 hC.2.1 hI.1 hI.2.1 (met_qFloor l D dA ad hC.2.2 sz τ x0 x2 K hT) (lw_S q2271 q2272 q170 q2273) 2 (by decide +kernel) ⟨rfl, rfl⟩ hR rfl hsz rfl hroom hf hdg) hI.2.2 (fun r τ1 H1 l1 hk hz hP hS => kk r τ1 H1 l1 hk ⟨hP, hz, hS⟩)
set_option maxHeartbeats 4000000 in
set_option maxRecDepth 100000 in
theorem met_qJoins (l : Launch) (D : va_G) (dA : Nat → ClassId) (ad : Nat → Nat) (hJ : rgJ twL ad) (sz : Nat) (τ : Sto) (x1 : Int32) (K : Sto → Prop) (hT : T_qJoins τ x1 K) : Met l yX6_qJoins (ws_ yX6_qJoins cX6_qJoins 6 (none)) ({ frames := 2, cells := 0, slots := 0, locals := 37 }) (va_Pc [.ref (ad 0), .int x1] (rgU D vwCl dA twL ad sz τ)) (va_Qv K (rgU D vwCl dA twL ad sz) (rgAd twL ad)) 0 0 (rgAd twL ad) := by
  refine tw_metv hJ (by decide) rfl (Nat.le_of_ble_eq_true rfl) ?_
  intro p e s m args below meth c Q hC hret hI ls hl
  have hx := hC.1.1
  have hb := hC.1.2.1
  have hl : lv_has ls 6 [(0, .ref (ad 0)), (1, .int x1)] := hl
  unfold T_qJoins at hT
  refine lv_aload_n hx hb dX6_qJoins_0 rfl (lv_at hl 0 rfl) ?_
  refine tg_97 hC hI dX6_qJoins_1 ?_
  refine lv_aload_n hx hb dX6_qJoins_4 rfl (lv_at hl 0 rfl) ?_
  refine tg_98 hC hI dX6_qJoins_5 ?_
  refine lv_iconst (v := 1) hx hb dX6_qJoins_8 (by decide) ?_
  refine lv_isub hx hb dX6_qJoins_9 ?_
  refine tw_lald hC hI tl_98 hT dX6_qJoins_10 (fun hT => ?_)
  refine lv_topl (fun y1 h2 => ?_)
  have hT := hT y1 h2
  refine lv_lstore_n (lv' := [(2, .long y1), (0, .ref (ad 0)), (1, .int x1)]) hx hb dX6_qJoins_11 rfl hl (Nat.le_of_ble_eq_true rfl) rfl (fun ls hl => ?_)
  refine lv_aload_n hx hb dX6_qJoins_12 rfl (lv_at hl 1 rfl) ?_
  refine tg_97 hC hI dX6_qJoins_13 ?_
  refine lv_aload_n hx hb dX6_qJoins_16 rfl (lv_at hl 1 rfl) ?_
  refine tg_98 hC hI dX6_qJoins_17 ?_
  refine lv_iconst (v := 2) hx hb dX6_qJoins_20 (by decide) ?_
  refine lv_isub hx hb dX6_qJoins_21 ?_
  refine tw_lald hC hI tl_98 hT dX6_qJoins_22 (fun hT => ?_)
  refine lv_topl (fun y3 h4 => ?_)
  have hT := hT y3 h4
  refine lv_lstore (lv' := [(4, .long y3), (2, .long y1), (0, .ref (ad 0)), (1, .int x1)]) hx hb dX6_qJoins_23 hl (Nat.le_of_ble_eq_true rfl) rfl (fun ls hl => ?_)
  refine lv_aload_n hx hb dX6_qJoins_25 rfl (lv_at hl 2 rfl) ?_
  refine lv_dup hx hb dX6_qJoins_26 rfl ?_
  refine tg_98 hC hI dX6_qJoins_27 ?_
  refine lv_iconst (v := 2) hx hb dX6_qJoins_30 (by decide) ?_
  refine lv_isub hx hb dX6_qJoins_31 ?_
  refine tp_98 hC hI hT dX6_qJoins_32 (fun τ5 H locs hT hI => ?_)
  refine lv_iload_n hx hb dX6_qJoins_35 rfl (lv_at hl 3 rfl) ?_
  by_cases c0 : x1 = 1
  · have hT := hT.1 c0
    refine lv_tableIn (tgt := 92) hx hb dX6_qJoins_36 (by rw [c0]; decide) (by rw [c0]; decide) (by rw [c0]; rfl) (by decide) ?_
    refine lv_aload_n hx hb dX6_qJoins_92 rfl (lv_at hl 2 rfl) ?_
    refine lv_lload hx hb dX6_qJoins_93 (lv_at hl 0 rfl) ?_
    refine lv_lload_n hx hb dX6_qJoins_95 rfl (lv_at hl 1 rfl) ?_
    refine lv_ladd hx hb dX6_qJoins_96 ?_
    refine tc_qClip hC hI hT ⟨Nat.le_of_ble_eq_true rfl, Nat.le_of_ble_eq_true rfl⟩ ⟨Nat.zero_le _, Nat.zero_le _⟩ hl.1 (Nat.le_of_ble_eq_true rfl) dX6_qJoins_97 (fun r7 τ6 H locs hT hI => ?_)
    refine tc_qPuts hC hI hT ⟨Nat.le_of_ble_eq_true rfl, Nat.le_of_ble_eq_true rfl⟩ ⟨Nat.zero_le _, Nat.zero_le _⟩ hl.1 (Nat.le_of_ble_eq_true rfl) dX6_qJoins_100 (fun τ8 H locs hT hI => ?_)
    refine lv_goto (tgt := 273) hx hb dX6_qJoins_103 (by decide) ?_
    exact hret _ _ _ _ _ hT hI dX6_qJoins_273
  have hT := hT.2 c0
  by_cases c1 : x1 = 2
  · have hT := hT.1 c1
    refine lv_tableIn (tgt := 106) hx hb dX6_qJoins_36 (by rw [c1]; decide) (by rw [c1]; decide) (by rw [c1]; rfl) (by decide) ?_
    refine lv_aload_n hx hb dX6_qJoins_106 rfl (lv_at hl 2 rfl) ?_
    refine lv_lload hx hb dX6_qJoins_107 (lv_at hl 0 rfl) ?_
    refine lv_lload_n hx hb dX6_qJoins_109 rfl (lv_at hl 1 rfl) ?_
    refine lv_lsub hx hb dX6_qJoins_110 ?_
    refine tc_qClip hC hI hT ⟨Nat.le_of_ble_eq_true rfl, Nat.le_of_ble_eq_true rfl⟩ ⟨Nat.zero_le _, Nat.zero_le _⟩ hl.1 (Nat.le_of_ble_eq_true rfl) dX6_qJoins_111 (fun r10 τ9 H locs hT hI => ?_)
    refine tc_qPuts hC hI hT ⟨Nat.le_of_ble_eq_true rfl, Nat.le_of_ble_eq_true rfl⟩ ⟨Nat.zero_le _, Nat.zero_le _⟩ hl.1 (Nat.le_of_ble_eq_true rfl) dX6_qJoins_114 (fun τ11 H locs hT hI => ?_)
    refine lv_goto (tgt := 273) hx hb dX6_qJoins_117 (by decide) ?_
    exact hret _ _ _ _ _ hT hI dX6_qJoins_273
  have hT := hT.2 c1
  by_cases c2 : x1 = 3
  · have hT := hT.1 c2
    refine lv_tableIn (tgt := 120) hx hb dX6_qJoins_36 (by rw [c2]; decide) (by rw [c2]; decide) (by rw [c2]; rfl) (by decide) ?_
    refine lv_aload_n hx hb dX6_qJoins_120 rfl (lv_at hl 2 rfl) ?_
    refine lv_lload hx hb dX6_qJoins_121 (lv_at hl 0 rfl) ?_
    refine lv_lload_n hx hb dX6_qJoins_123 rfl (lv_at hl 1 rfl) ?_
    refine lv_lmul hx hb dX6_qJoins_124 ?_
    refine tc_qClip hC hI hT ⟨Nat.le_of_ble_eq_true rfl, Nat.le_of_ble_eq_true rfl⟩ ⟨Nat.zero_le _, Nat.zero_le _⟩ hl.1 (Nat.le_of_ble_eq_true rfl) dX6_qJoins_125 (fun r13 τ12 H locs hT hI => ?_)
    refine tc_qPuts hC hI hT ⟨Nat.le_of_ble_eq_true rfl, Nat.le_of_ble_eq_true rfl⟩ ⟨Nat.zero_le _, Nat.zero_le _⟩ hl.1 (Nat.le_of_ble_eq_true rfl) dX6_qJoins_128 (fun τ14 H locs hT hI => ?_)
    refine lv_goto (tgt := 273) hx hb dX6_qJoins_131 (by decide) ?_
    exact hret _ _ _ _ _ hT hI dX6_qJoins_273
  have hT := hT.2 c2
  by_cases c3 : x1 = 4
  · have hT := hT.1 c3
    refine lv_tableIn (tgt := 134) hx hb dX6_qJoins_36 (by rw [c3]; decide) (by rw [c3]; decide) (by rw [c3]; rfl) (by decide) ?_
    refine lv_aload_n hx hb dX6_qJoins_134 rfl (lv_at hl 2 rfl) ?_
    refine lv_lload hx hb dX6_qJoins_135 (lv_at hl 0 rfl) ?_
    refine lv_lload_n hx hb dX6_qJoins_137 rfl (lv_at hl 1 rfl) ?_
    refine tc_qFloor hC hI hT ⟨Nat.le_of_ble_eq_true rfl, Nat.le_of_ble_eq_true rfl⟩ ⟨Nat.zero_le _, Nat.zero_le _⟩ hl.1 (Nat.le_of_ble_eq_true rfl) dX6_qJoins_138 (fun r16 τ15 H locs hT hI => ?_)
    refine tc_qPuts hC hI hT ⟨Nat.le_of_ble_eq_true rfl, Nat.le_of_ble_eq_true rfl⟩ ⟨Nat.zero_le _, Nat.zero_le _⟩ hl.1 (Nat.le_of_ble_eq_true rfl) dX6_qJoins_141 (fun τ17 H locs hT hI => ?_)
    refine lv_goto (tgt := 273) hx hb dX6_qJoins_144 (by decide) ?_
    exact hret _ _ _ _ _ hT hI dX6_qJoins_273
  have hT := hT.2 c3
  by_cases c4 : x1 = 5
  · have hT := hT.1 c4
    refine lv_tableIn (tgt := 147) hx hb dX6_qJoins_36 (by rw [c4]; decide) (by rw [c4]; decide) (by rw [c4]; rfl) (by decide) ?_
    refine lv_aload_n hx hb dX6_qJoins_147 rfl (lv_at hl 2 rfl) ?_
    refine lv_lload hx hb dX6_qJoins_148 (lv_at hl 0 rfl) ?_
    refine lv_lload_n hx hb dX6_qJoins_150 rfl (lv_at hl 1 rfl) ?_
    refine rl_ge (tgt := 160) hx hb dX6_qJoins_151 dX6_qJoins_152 (by decide) (fun hc => ?_) (fun hc => ?_)
    · have hT := hT.1 hc
      refine lv_lload_n hx hb dX6_qJoins_160 rfl (lv_at hl 1 rfl) ?_
      refine tc_qPuts hC hI hT ⟨Nat.le_of_ble_eq_true rfl, Nat.le_of_ble_eq_true rfl⟩ ⟨Nat.zero_le _, Nat.zero_le _⟩ hl.1 (Nat.le_of_ble_eq_true rfl) dX6_qJoins_161 (fun τ18 H locs hT hI => ?_)
      refine lv_goto (tgt := 273) hx hb dX6_qJoins_164 (by decide) ?_
      exact hret _ _ _ _ _ hT hI dX6_qJoins_273
    · have hT := hT.2 hc
      refine lv_lload hx hb dX6_qJoins_155 (lv_at hl 0 rfl) ?_
      refine lv_goto (tgt := 161) hx hb dX6_qJoins_157 (by decide) ?_
      refine tc_qPuts hC hI hT ⟨Nat.le_of_ble_eq_true rfl, Nat.le_of_ble_eq_true rfl⟩ ⟨Nat.zero_le _, Nat.zero_le _⟩ hl.1 (Nat.le_of_ble_eq_true rfl) dX6_qJoins_161 (fun τ19 H locs hT hI => ?_)
      refine lv_goto (tgt := 273) hx hb dX6_qJoins_164 (by decide) ?_
      exact hret _ _ _ _ _ hT hI dX6_qJoins_273
  have hT := hT.2 c4
  by_cases c5 : x1 = 6
  · have hT := hT.1 c5
    refine lv_tableIn (tgt := 167) hx hb dX6_qJoins_36 (by rw [c5]; decide) (by rw [c5]; decide) (by rw [c5]; rfl) (by decide) ?_
    refine lv_aload_n hx hb dX6_qJoins_167 rfl (lv_at hl 2 rfl) ?_
    refine lv_lload hx hb dX6_qJoins_168 (lv_at hl 0 rfl) ?_
    refine lv_lload_n hx hb dX6_qJoins_170 rfl (lv_at hl 1 rfl) ?_
    refine rl_le (tgt := 180) hx hb dX6_qJoins_171 dX6_qJoins_172 (by decide) (fun hc => ?_) (fun hc => ?_)
    · have hT := hT.1 hc
      refine lv_lload_n hx hb dX6_qJoins_180 rfl (lv_at hl 1 rfl) ?_
      refine tc_qPuts hC hI hT ⟨Nat.le_of_ble_eq_true rfl, Nat.le_of_ble_eq_true rfl⟩ ⟨Nat.zero_le _, Nat.zero_le _⟩ hl.1 (Nat.le_of_ble_eq_true rfl) dX6_qJoins_181 (fun τ20 H locs hT hI => ?_)
      refine lv_goto (tgt := 273) hx hb dX6_qJoins_184 (by decide) ?_
      exact hret _ _ _ _ _ hT hI dX6_qJoins_273
    · have hT := hT.2 hc
      refine lv_lload hx hb dX6_qJoins_175 (lv_at hl 0 rfl) ?_
      refine lv_goto (tgt := 181) hx hb dX6_qJoins_177 (by decide) ?_
      refine tc_qPuts hC hI hT ⟨Nat.le_of_ble_eq_true rfl, Nat.le_of_ble_eq_true rfl⟩ ⟨Nat.zero_le _, Nat.zero_le _⟩ hl.1 (Nat.le_of_ble_eq_true rfl) dX6_qJoins_181 (fun τ21 H locs hT hI => ?_)
      refine lv_goto (tgt := 273) hx hb dX6_qJoins_184 (by decide) ?_
      exact hret _ _ _ _ _ hT hI dX6_qJoins_273
  have hT := hT.2 c5
  by_cases c6 : x1 = 7
  · have hT := hT.1 c6
    refine lv_tableIn (tgt := 187) hx hb dX6_qJoins_36 (by rw [c6]; decide) (by rw [c6]; decide) (by rw [c6]; rfl) (by decide) ?_
    refine lv_aload_n hx hb dX6_qJoins_187 rfl (lv_at hl 2 rfl) ?_
    refine lv_lload hx hb dX6_qJoins_188 (lv_at hl 0 rfl) ?_
    refine lv_lload_n hx hb dX6_qJoins_190 rfl (lv_at hl 1 rfl) ?_
    refine rl_ge (tgt := 199) hx hb dX6_qJoins_191 dX6_qJoins_192 (by decide) (fun hc => ?_) (fun hc => ?_)
    · have hT := hT.1 hc
      refine lv_lconst (v := 0) hx hb dX6_qJoins_199 (by decide) ?_
      refine tc_qPuts hC hI hT ⟨Nat.le_of_ble_eq_true rfl, Nat.le_of_ble_eq_true rfl⟩ ⟨Nat.zero_le _, Nat.zero_le _⟩ hl.1 (Nat.le_of_ble_eq_true rfl) dX6_qJoins_200 (fun τ22 H locs hT hI => ?_)
      refine lv_goto (tgt := 273) hx hb dX6_qJoins_203 (by decide) ?_
      exact hret _ _ _ _ _ hT hI dX6_qJoins_273
    · have hT := hT.2 hc
      refine lv_lconst (v := 1) hx hb dX6_qJoins_195 (by decide) ?_
      refine lv_goto (tgt := 200) hx hb dX6_qJoins_196 (by decide) ?_
      refine tc_qPuts hC hI hT ⟨Nat.le_of_ble_eq_true rfl, Nat.le_of_ble_eq_true rfl⟩ ⟨Nat.zero_le _, Nat.zero_le _⟩ hl.1 (Nat.le_of_ble_eq_true rfl) dX6_qJoins_200 (fun τ23 H locs hT hI => ?_)
      refine lv_goto (tgt := 273) hx hb dX6_qJoins_203 (by decide) ?_
      exact hret _ _ _ _ _ hT hI dX6_qJoins_273
  have hT := hT.2 c6
  by_cases c7 : x1 = 8
  · have hT := hT.1 c7
    refine lv_tableIn (tgt := 206) hx hb dX6_qJoins_36 (by rw [c7]; decide) (by rw [c7]; decide) (by rw [c7]; rfl) (by decide) ?_
    refine lv_aload_n hx hb dX6_qJoins_206 rfl (lv_at hl 2 rfl) ?_
    refine lv_lload hx hb dX6_qJoins_207 (lv_at hl 0 rfl) ?_
    refine lv_lload_n hx hb dX6_qJoins_209 rfl (lv_at hl 1 rfl) ?_
    refine rl_le (tgt := 218) hx hb dX6_qJoins_210 dX6_qJoins_211 (by decide) (fun hc => ?_) (fun hc => ?_)
    · have hT := hT.1 hc
      refine lv_lconst (v := 0) hx hb dX6_qJoins_218 (by decide) ?_
      refine tc_qPuts hC hI hT ⟨Nat.le_of_ble_eq_true rfl, Nat.le_of_ble_eq_true rfl⟩ ⟨Nat.zero_le _, Nat.zero_le _⟩ hl.1 (Nat.le_of_ble_eq_true rfl) dX6_qJoins_219 (fun τ24 H locs hT hI => ?_)
      refine lv_goto (tgt := 273) hx hb dX6_qJoins_222 (by decide) ?_
      exact hret _ _ _ _ _ hT hI dX6_qJoins_273
    · have hT := hT.2 hc
      refine lv_lconst (v := 1) hx hb dX6_qJoins_214 (by decide) ?_
      refine lv_goto (tgt := 219) hx hb dX6_qJoins_215 (by decide) ?_
      refine tc_qPuts hC hI hT ⟨Nat.le_of_ble_eq_true rfl, Nat.le_of_ble_eq_true rfl⟩ ⟨Nat.zero_le _, Nat.zero_le _⟩ hl.1 (Nat.le_of_ble_eq_true rfl) dX6_qJoins_219 (fun τ25 H locs hT hI => ?_)
      refine lv_goto (tgt := 273) hx hb dX6_qJoins_222 (by decide) ?_
      exact hret _ _ _ _ _ hT hI dX6_qJoins_273
  have hT := hT.2 c7
  by_cases c8 : x1 = 9
  · have hT := hT.1 c8
    refine lv_tableIn (tgt := 225) hx hb dX6_qJoins_36 (by rw [c8]; decide) (by rw [c8]; decide) (by rw [c8]; rfl) (by decide) ?_
    refine lv_aload_n hx hb dX6_qJoins_225 rfl (lv_at hl 2 rfl) ?_
    refine lv_lload hx hb dX6_qJoins_226 (lv_at hl 0 rfl) ?_
    refine lv_lload_n hx hb dX6_qJoins_228 rfl (lv_at hl 1 rfl) ?_
    refine rl_ne (tgt := 237) hx hb dX6_qJoins_229 dX6_qJoins_230 (by decide) (fun hc => ?_) (fun hc => ?_)
    · have hT := hT.1 hc
      refine lv_lconst (v := 0) hx hb dX6_qJoins_237 (by decide) ?_
      refine tc_qPuts hC hI hT ⟨Nat.le_of_ble_eq_true rfl, Nat.le_of_ble_eq_true rfl⟩ ⟨Nat.zero_le _, Nat.zero_le _⟩ hl.1 (Nat.le_of_ble_eq_true rfl) dX6_qJoins_238 (fun τ26 H locs hT hI => ?_)
      refine lv_goto (tgt := 273) hx hb dX6_qJoins_241 (by decide) ?_
      exact hret _ _ _ _ _ hT hI dX6_qJoins_273
    · have hT := hT.2 hc
      refine lv_lconst (v := 1) hx hb dX6_qJoins_233 (by decide) ?_
      refine lv_goto (tgt := 238) hx hb dX6_qJoins_234 (by decide) ?_
      refine tc_qPuts hC hI hT ⟨Nat.le_of_ble_eq_true rfl, Nat.le_of_ble_eq_true rfl⟩ ⟨Nat.zero_le _, Nat.zero_le _⟩ hl.1 (Nat.le_of_ble_eq_true rfl) dX6_qJoins_238 (fun τ27 H locs hT hI => ?_)
      refine lv_goto (tgt := 273) hx hb dX6_qJoins_241 (by decide) ?_
      exact hret _ _ _ _ _ hT hI dX6_qJoins_273
  have hT := hT.2 c8
  by_cases c9 : x1 = 10
  · have hT := hT.1 c9
    refine lv_tableIn (tgt := 244) hx hb dX6_qJoins_36 (by rw [c9]; decide) (by rw [c9]; decide) (by rw [c9]; rfl) (by decide) ?_
    refine lv_aload_n hx hb dX6_qJoins_244 rfl (lv_at hl 2 rfl) ?_
    refine lv_lload hx hb dX6_qJoins_245 (lv_at hl 0 rfl) ?_
    refine lv_lload_n hx hb dX6_qJoins_247 rfl (lv_at hl 1 rfl) ?_
    refine lv_lmul hx hb dX6_qJoins_248 ?_
    refine tc_qPuts hC hI hT ⟨Nat.le_of_ble_eq_true rfl, Nat.le_of_ble_eq_true rfl⟩ ⟨Nat.zero_le _, Nat.zero_le _⟩ hl.1 (Nat.le_of_ble_eq_true rfl) dX6_qJoins_249 (fun τ28 H locs hT hI => ?_)
    refine lv_goto (tgt := 273) hx hb dX6_qJoins_252 (by decide) ?_
    exact hret _ _ _ _ _ hT hI dX6_qJoins_273
  have hT := hT.2 c9
  refine lv_tableOut (tgt := 255) hx hb dX6_qJoins_36 (ts_out1 (n := 10) (by decide) (fun k hk => by rcases (show k = 0 ∨ k = 1 ∨ k = 2 ∨ k = 3 ∨ k = 4 ∨ k = 5 ∨ k = 6 ∨ k = 7 ∨ k = 8 ∨ k = 9 by omega) with rfl | rfl | rfl | rfl | rfl | rfl | rfl | rfl | rfl | rfl <;> assumption)) (by decide) ?_
  refine lv_aload_n hx hb dX6_qJoins_255 rfl (lv_at hl 2 rfl) ?_
  refine lv_lload hx hb dX6_qJoins_256 (lv_at hl 0 rfl) ?_
  refine lv_lload_n hx hb dX6_qJoins_258 rfl (lv_at hl 1 rfl) ?_
  refine lv_ladd hx hb dX6_qJoins_259 ?_
  refine lv_lconst (v := 0) hx hb dX6_qJoins_260 (by decide) ?_
  refine rl_le (tgt := 269) hx hb dX6_qJoins_261 dX6_qJoins_262 (by decide) (fun hc => ?_) (fun hc => ?_)
  · have hT := hT.1 hc
    refine lv_lconst (v := 0) hx hb dX6_qJoins_269 (by decide) ?_
    refine tc_qPuts hC hI hT ⟨Nat.le_of_ble_eq_true rfl, Nat.le_of_ble_eq_true rfl⟩ ⟨Nat.zero_le _, Nat.zero_le _⟩ hl.1 (Nat.le_of_ble_eq_true rfl) dX6_qJoins_270 (fun τ29 H locs hT hI => ?_)
    exact hret _ _ _ _ _ hT hI dX6_qJoins_273
  · have hT := hT.2 hc
    refine lv_lconst (v := 1) hx hb dX6_qJoins_265 (by decide) ?_
    refine lv_goto (tgt := 270) hx hb dX6_qJoins_266 (by decide) ?_
    refine tc_qPuts hC hI hT ⟨Nat.le_of_ble_eq_true rfl, Nat.le_of_ble_eq_true rfl⟩ ⟨Nat.zero_le _, Nat.zero_le _⟩ hl.1 (Nat.le_of_ble_eq_true rfl) dX6_qJoins_270 (fun τ30 H locs hT hI => ?_)
    exact hret _ _ _ _ _ hT hI dX6_qJoins_273
theorem tc_qJoins {p : Program} {l : Launch} {e : Env} {R : Room} {s : State} {m : MethodId} {args : Array Value} {below : List Frame} {meth : Method} {c : Code} {H : Heap} {locs : List Loc} {cells slots : Nat} {Q : State → Prop} {cc : ByteArray} {nL : Nat} {D : va_G} {dA : Nat → ClassId} {ad : Nat → Nat} {τ : Sto} {pc sz : Nat} {ls : Array Slot} {rest : List Value} {H0 : Heap} {x1 : Int32} {K : Sto → Prop} (hC : tC p m c cc nL s args D dA ad) (hI : tI D dA ad sz H0 τ H locs) (hT : T_qJoins τ x1 K) (hR : 2 + 1 ≤ R.frames ∧ 8 + (6 + 11) + 37 ≤ R.locals) (hf : cells ≤ R.cells ∧ slots ≤ R.slots) (hsz : ls.size = nL) (hroom : (rest.map fun v => v.category).sum ≤ 8) (hdg : decode cc pc = .ok (.invokevirtual 412, 3)) (kk : ∀ (τ1 : Sto) (H1 : Heap) (locs1 : List Loc), K τ1 → tI D dA ad sz H0 τ1 H1 locs1 → W p l e R s m args below meth c H1 locs1 cells slots Q (F0 m (pc + 3) ls (rest))) : W p l e R s m args below meth c H locs cells slots Q (F0 m pc ls (.int x1 :: .ref (ad 0) :: rest)) :=
  rg_callv (rg_runV hC.1 hC.2.1 hI.1 hI.2.1 tl_0 rfl (met_qJoins l D dA ad hC.2.2 sz τ x1 K hT) (lw_V q2262 q2264 qs115 q170 q2265) 1 (by decide +kernel) ⟨rfl, rfl⟩ hR rfl hsz rfl hroom hf hdg) hI.2.2 (fun τ1 H1 l1 hk hz hP hS => kk τ1 H1 l1 hk ⟨hP, hz, hS⟩)
set_option maxHeartbeats 4000000 in
set_option maxRecDepth 100000 in
theorem met_codesTell (l : Launch) (D : va_G) (dA : Nat → ClassId) (ad : Nat → Nat) (hJ : rgJ twL ad) (sz : Nat) (τ : Sto) (x1 : Int32) (x2 : Int32) (K : Int64 → Sto → Prop) (hT : T_codesTell τ x1 x2 K) : Met l yX6_codesTell (ws_ yX6_codesTell cX6_codesTell 5 (some .long)) ({ frames := 3, cells := 0, slots := 0, locals := 62 }) (va_Pc [.ref (ad 0), .int x1, .int x2] (rgU D vwCl dA twL ad sz τ)) (va_Ql K (rgU D vwCl dA twL ad sz) (rgAd twL ad)) 0 0 (rgAd twL ad) := by
  refine tw_metl hJ (by decide) rfl (Nat.le_of_ble_eq_true rfl) ?_
  intro p e s m args below meth c Q hC hret hI ls hl
  have hx := hC.1.1
  have hb := hC.1.2.1
  have hl : lv_has ls 5 [(0, .ref (ad 0)), (1, .int x1), (2, .int x2)] := hl
  have w_23 : ∀ (x1 : Int32) (x2 : Int32) (n : Nat) (x3 : Int32) (τ : Sto) (H : Heap) (locs : List Loc) (ls : Array Slot), T_codesTell_23 K x1 x2 n x3 τ → tI D dA ad sz s.heap τ H locs → lv_has ls 5 [(0, .ref (ad 0)), (1, .int x1), (2, .int x2), (3, .int x3)] → W p l e ({ frames := 3, cells := 0, slots := 0, locals := 62 }) s m args below meth c H locs 0 0 Q (F0 m 23 ls []) := by
    intro x1 x2 n
    induction n with
    | zero => intro x3 τ H locs ls hT; exact hT.elim
    | succ n ih =>
      intro x3 τ H locs ls hT hI hl
      unfold T_codesTell_23 at hT
      refine lv_iload_n hx hb dX6_codesTell_23 rfl (lv_at hl 3 rfl) ?_
      refine lv_aload_n hx hb dX6_codesTell_24 rfl (lv_at hl 0 rfl) ?_
      refine tg_46 hC hI dX6_codesTell_25 ?_
      refine lv_bipush (v := 10) hx hb dX6_codesTell_28 (by decide) ?_
      refine lv_iload_n hx hb dX6_codesTell_30 rfl (lv_at hl 1 rfl) ?_
      refine lv_iadd hx hb dX6_codesTell_31 ?_
      refine tw_iald hC hI tl_47 hT dX6_codesTell_32 (fun hT => ?_)
      refine lv_icmp_ge (tgt := 155) hx hb dX6_codesTell_33 (by decide) (fun hc => ?_) (fun hc => ?_)
      · have hT := hT.1 hc
        refine lv_aload_n hx hb dX6_codesTell_155 rfl (lv_at hl 0 rfl) ?_
        refine tg_97 hC hI dX6_codesTell_156 ?_
        refine lv_iconst (v := 0) hx hb dX6_codesTell_159 (by decide) ?_
        refine tw_lald hC hI tl_98 hT dX6_codesTell_160 (fun hT => ?_)
        exact hret _ _ _ _ _ _ hT hI dX6_codesTell_161
      · have hT := hT.2 hc
        refine lv_aload_n hx hb dX6_codesTell_36 rfl (lv_at hl 0 rfl) ?_
        refine tg_47 hC hI dX6_codesTell_37 ?_
        refine lv_sipush (v := 1600) hx hb dX6_codesTell_40 (by decide) ?_
        refine lv_iload_n hx hb dX6_codesTell_43 rfl (lv_at hl 3 rfl) ?_
        refine lv_iadd hx hb dX6_codesTell_44 ?_
        refine tw_iald hC hI tl_48 hT dX6_codesTell_45 (fun hT => ?_)
        refine lv_istore (lv' := [(4, .int (τ.1 48 (Int32.toNatClampNeg (1600 + x3)))), (0, .ref (ad 0)), (1, .int x1), (2, .int x2), (3, .int x3)]) hx hb dX6_codesTell_46 hl (Nat.le_of_ble_eq_true rfl) rfl (fun ls hl => ?_)
        refine lv_iload hx hb dX6_codesTell_48 (lv_at hl 0 rfl) ?_
        refine lv_sipush (v := 1000) hx hb dX6_codesTell_50 (by decide) ?_
        refine lv_icmp_lt (tgt := 70) hx hb dX6_codesTell_53 (by decide) (fun hc => ?_) (fun hc => ?_)
        · have hT := hT.1 hc
          refine lv_iload hx hb dX6_codesTell_70 (lv_at hl 0 rfl) ?_
          refine lv_bipush (v := 40) hx hb dX6_codesTell_72 (by decide) ?_
          refine lv_icmp_lt (tgt := 94) hx hb dX6_codesTell_74 (by decide) (fun hc => ?_) (fun hc => ?_)
          · have hT := hT.1 hc
            refine lv_iload hx hb dX6_codesTell_94 (lv_at hl 0 rfl) ?_
            refine lv_bipush (v := 13) hx hb dX6_codesTell_96 (by decide) ?_
            refine lv_icmp_ne (tgt := 109) hx hb dX6_codesTell_98 (by decide) (fun hc => ?_) (fun hc => ?_)
            · have hT := hT.1 hc
              refine lv_iload hx hb dX6_codesTell_109 (lv_at hl 0 rfl) ?_
              refine lv_bipush (v := 12) hx hb dX6_codesTell_111 (by decide) ?_
              refine lv_icmp_ne (tgt := 143) hx hb dX6_codesTell_113 (by decide) (fun hc => ?_) (fun hc => ?_)
              · have hT := hT.1 hc
                refine lv_aload_n hx hb dX6_codesTell_143 rfl (lv_at hl 1 rfl) ?_
                refine lv_iload hx hb dX6_codesTell_144 (lv_at hl 0 rfl) ?_
                refine tc_qJoins hC hI hT ⟨Nat.le_of_ble_eq_true rfl, Nat.le_of_ble_eq_true rfl⟩ ⟨Nat.zero_le _, Nat.zero_le _⟩ hl.1 (Nat.le_of_ble_eq_true rfl) dX6_codesTell_146 (fun τ1 H locs hT hI => ?_)
                refine lv_iinc (v := x3 + 1) (lv' := [(3, .int (x3 + 1)), (4, .int (τ.1 48 (Int32.toNatClampNeg (1600 + x3)))), (0, .ref (ad 0)), (1, .int x1), (2, .int x2)]) hx hb dX6_codesTell_149 hl (k := 4) rfl rfl (Nat.le_of_ble_eq_true rfl) rfl (fun ls hl => ?_)
                refine lv_goto (tgt := 23) hx hb dX6_codesTell_152 (by decide) ?_
                exact ih (x3 + 1) τ1 _ _ _ hT hI (lv_sub hl [2, 3, 4, 0] rfl)
              · have hT := hT.2 hc
                refine lv_aload_n hx hb dX6_codesTell_116 rfl (lv_at hl 1 rfl) ?_
                refine tg_97 hC hI dX6_codesTell_117 ?_
                refine lv_aload_n hx hb dX6_codesTell_120 rfl (lv_at hl 1 rfl) ?_
                refine tg_98 hC hI dX6_codesTell_121 ?_
                refine lv_iconst (v := 1) hx hb dX6_codesTell_124 (by decide) ?_
                refine lv_isub hx hb dX6_codesTell_125 ?_
                refine lv_lconst (v := 1) hx hb dX6_codesTell_126 (by decide) ?_
                refine lv_aload_n hx hb dX6_codesTell_127 rfl (lv_at hl 1 rfl) ?_
                refine tg_97 hC hI dX6_codesTell_128 ?_
                refine lv_aload_n hx hb dX6_codesTell_131 rfl (lv_at hl 1 rfl) ?_
                refine tg_98 hC hI dX6_codesTell_132 ?_
                refine lv_iconst (v := 1) hx hb dX6_codesTell_135 (by decide) ?_
                refine lv_isub hx hb dX6_codesTell_136 ?_
                refine tw_lald hC hI tl_98 hT dX6_codesTell_137 (fun hT => ?_)
                refine lv_lsub hx hb dX6_codesTell_138 ?_
                refine tw_last hC hI tl_98 hT dX6_codesTell_139 (fun τ2 H locs hT hI => ?_)
                refine lv_goto (tgt := 149) hx hb dX6_codesTell_140 (by decide) ?_
                refine lv_iinc (v := x3 + 1) (lv' := [(3, .int (x3 + 1)), (4, .int (τ.1 48 (Int32.toNatClampNeg (1600 + x3)))), (0, .ref (ad 0)), (1, .int x1), (2, .int x2)]) hx hb dX6_codesTell_149 hl (k := 4) rfl rfl (Nat.le_of_ble_eq_true rfl) rfl (fun ls hl => ?_)
                refine lv_goto (tgt := 23) hx hb dX6_codesTell_152 (by decide) ?_
                exact ih (x3 + 1) τ2 _ _ _ hT hI (lv_sub hl [2, 3, 4, 0] rfl)
            · have hT := hT.2 hc
              refine lv_aload_n hx hb dX6_codesTell_101 rfl (lv_at hl 1 rfl) ?_
              refine lv_lconst (v := 1) hx hb dX6_codesTell_102 (by decide) ?_
              refine tc_qPuts hC hI hT ⟨Nat.le_of_ble_eq_true rfl, Nat.le_of_ble_eq_true rfl⟩ ⟨Nat.zero_le _, Nat.zero_le _⟩ hl.1 (Nat.le_of_ble_eq_true rfl) dX6_codesTell_103 (fun τ3 H locs hT hI => ?_)
              refine lv_goto (tgt := 149) hx hb dX6_codesTell_106 (by decide) ?_
              refine lv_iinc (v := x3 + 1) (lv' := [(3, .int (x3 + 1)), (4, .int (τ.1 48 (Int32.toNatClampNeg (1600 + x3)))), (0, .ref (ad 0)), (1, .int x1), (2, .int x2)]) hx hb dX6_codesTell_149 hl (k := 4) rfl rfl (Nat.le_of_ble_eq_true rfl) rfl (fun ls hl => ?_)
              refine lv_goto (tgt := 23) hx hb dX6_codesTell_152 (by decide) ?_
              exact ih (x3 + 1) τ3 _ _ _ hT hI (lv_sub hl [2, 3, 4, 0] rfl)
          · have hT := hT.2 hc
            refine lv_aload_n hx hb dX6_codesTell_77 rfl (lv_at hl 1 rfl) ?_
            refine lv_aload_n hx hb dX6_codesTell_78 rfl (lv_at hl 1 rfl) ?_
            refine lv_iload hx hb dX6_codesTell_79 (lv_at hl 0 rfl) ?_
            refine lv_bipush (v := 40) hx hb dX6_codesTell_81 (by decide) ?_
            refine lv_isub hx hb dX6_codesTell_83 ?_
            refine lv_iload_n hx hb dX6_codesTell_84 rfl (lv_at hl 3 rfl) ?_
            refine tc_qPartOf hC hI hT ⟨Nat.le_of_ble_eq_true rfl, Nat.le_of_ble_eq_true rfl⟩ ⟨Nat.zero_le _, Nat.zero_le _⟩ hl.1 (Nat.le_of_ble_eq_true rfl) dX6_codesTell_85 (fun r5 τ4 H locs hT hI => ?_)
            refine tc_qPuts hC hI hT ⟨Nat.le_of_ble_eq_true rfl, Nat.le_of_ble_eq_true rfl⟩ ⟨Nat.zero_le _, Nat.zero_le _⟩ hl.1 (Nat.le_of_ble_eq_true rfl) dX6_codesTell_88 (fun τ6 H locs hT hI => ?_)
            refine lv_goto (tgt := 149) hx hb dX6_codesTell_91 (by decide) ?_
            refine lv_iinc (v := x3 + 1) (lv' := [(3, .int (x3 + 1)), (4, .int (τ.1 48 (Int32.toNatClampNeg (1600 + x3)))), (0, .ref (ad 0)), (1, .int x1), (2, .int x2)]) hx hb dX6_codesTell_149 hl (k := 4) rfl rfl (Nat.le_of_ble_eq_true rfl) rfl (fun ls hl => ?_)
            refine lv_goto (tgt := 23) hx hb dX6_codesTell_152 (by decide) ?_
            exact ih (x3 + 1) τ6 _ _ _ hT hI (lv_sub hl [2, 3, 4, 0] rfl)
        · have hT := hT.2 hc
          refine lv_aload_n hx hb dX6_codesTell_56 rfl (lv_at hl 1 rfl) ?_
          refine lv_iload hx hb dX6_codesTell_57 (lv_at hl 0 rfl) ?_
          refine lv_sipush (v := 1000) hx hb dX6_codesTell_59 (by decide) ?_
          refine lv_isub hx hb dX6_codesTell_62 ?_
          refine lv_i2l hx hb dX6_codesTell_63 rfl ?_
          refine tc_qPuts hC hI hT ⟨Nat.le_of_ble_eq_true rfl, Nat.le_of_ble_eq_true rfl⟩ ⟨Nat.zero_le _, Nat.zero_le _⟩ hl.1 (Nat.le_of_ble_eq_true rfl) dX6_codesTell_64 (fun τ7 H locs hT hI => ?_)
          refine lv_goto (tgt := 149) hx hb dX6_codesTell_67 (by decide) ?_
          refine lv_iinc (v := x3 + 1) (lv' := [(3, .int (x3 + 1)), (4, .int (τ.1 48 (Int32.toNatClampNeg (1600 + x3)))), (0, .ref (ad 0)), (1, .int x1), (2, .int x2)]) hx hb dX6_codesTell_149 hl (k := 4) rfl rfl (Nat.le_of_ble_eq_true rfl) rfl (fun ls hl => ?_)
          refine lv_goto (tgt := 23) hx hb dX6_codesTell_152 (by decide) ?_
          exact ih (x3 + 1) τ7 _ _ _ hT hI (lv_sub hl [2, 3, 4, 0] rfl)
  unfold T_codesTell at hT
  refine lv_aload_n hx hb dX6_codesTell_0 rfl (lv_at hl 0 rfl) ?_
  refine lv_iload_n hx hb dX6_codesTell_1 rfl (lv_at hl 1 rfl) ?_
  refine tc_kindBy hC hI hT ⟨Nat.le_of_ble_eq_true rfl, Nat.le_of_ble_eq_true rfl⟩ ⟨Nat.zero_le _, Nat.zero_le _⟩ hl.1 (Nat.le_of_ble_eq_true rfl) dX6_codesTell_2 (fun r9 τ8 H locs hT hI => ?_)
  refine tp_50 hC hI hT dX6_codesTell_5 (fun τ10 H locs hT hI => ?_)
  refine lv_aload_n hx hb dX6_codesTell_8 rfl (lv_at hl 0 rfl) ?_
  refine lv_iconst (v := 0) hx hb dX6_codesTell_9 (by decide) ?_
  refine tp_98 hC hI hT dX6_codesTell_10 (fun τ11 H locs hT hI => ?_)
  refine lv_aload_n hx hb dX6_codesTell_13 rfl (lv_at hl 0 rfl) ?_
  refine tg_45 hC hI dX6_codesTell_14 ?_
  refine lv_bipush (v := 10) hx hb dX6_codesTell_17 (by decide) ?_
  refine lv_iload_n hx hb dX6_codesTell_19 rfl (lv_at hl 1 rfl) ?_
  refine lv_iadd hx hb dX6_codesTell_20 ?_
  refine tw_iald hC hI tl_46 hT dX6_codesTell_21 (fun hT => ?_)
  refine lv_istore_n (lv' := [(3, .int (τ11.1 46 (Int32.toNatClampNeg (10 + x1)))), (0, .ref (ad 0)), (1, .int x1), (2, .int x2)]) hx hb dX6_codesTell_22 rfl hl (Nat.le_of_ble_eq_true rfl) rfl (fun ls hl => ?_)
  obtain ⟨n23, hT⟩ := hT
  exact w_23 x1 x2 n23 (τ11.1 46 (Int32.toNatClampNeg (10 + x1))) τ11 _ _ _ hT hI (lv_sub hl [1, 2, 3, 0] rfl)
theorem tc_codesTell {p : Program} {l : Launch} {e : Env} {R : Room} {s : State} {m : MethodId} {args : Array Value} {below : List Frame} {meth : Method} {c : Code} {H : Heap} {locs : List Loc} {cells slots : Nat} {Q : State → Prop} {cc : ByteArray} {nL : Nat} {D : va_G} {dA : Nat → ClassId} {ad : Nat → Nat} {τ : Sto} {pc sz : Nat} {ls : Array Slot} {rest : List Value} {H0 : Heap} {x1 : Int32} {x2 : Int32} {K : Int64 → Sto → Prop} (hC : tC p m c cc nL s args D dA ad) (hI : tI D dA ad sz H0 τ H locs) (hT : T_codesTell τ x1 x2 K) (hR : 3 + 1 ≤ R.frames ∧ 8 + (5 + 11) + 62 ≤ R.locals) (hf : cells ≤ R.cells ∧ slots ≤ R.slots) (hsz : ls.size = nL) (hroom : (rest.map fun v => v.category).sum ≤ 8) (hdg : decode cc pc = .ok (.invokevirtual 418, 3)) (kk : ∀ (r : Int64) (τ1 : Sto) (H1 : Heap) (locs1 : List Loc), K r τ1 → tI D dA ad sz H0 τ1 H1 locs1 → W p l e R s m args below meth c H1 locs1 cells slots Q (F0 m (pc + 3) ls (.long r :: rest))) : W p l e R s m args below meth c H locs cells slots Q (F0 m pc ls (.int x2 :: .int x1 :: .ref (ad 0) :: rest)) :=
  rg_calll (rg_runV hC.1 hC.2.1 hI.1 hI.2.1 tl_0 rfl (met_codesTell l D dA ad hC.2.2 sz τ x1 x2 K hT) (lw_V q2230 q2232 qs107 q170 q2233) 2 (by decide +kernel) ⟨rfl, rfl⟩ hR rfl hsz rfl hroom hf hdg) hI.2.2 (fun r τ1 H1 l1 hk hz hP hS => kk r τ1 H1 l1 hk ⟨hP, hz, hS⟩)
set_option maxHeartbeats 4000000 in
set_option maxRecDepth 100000 in
theorem met_doesStand (l : Launch) (D : va_G) (dA : Nat → ClassId) (ad : Nat → Nat) (hJ : rgJ twL ad) (sz : Nat) (τ : Sto) (x1 : Int32) (K : Int32 → Sto → Prop) (hT : T_doesStand τ x1 K) : Met l yX6_doesStand (ws_ yX6_doesStand cX6_doesStand 2 (some .boolean)) ({ frames := 4, cells := 0, slots := 0, locals := 86 }) (va_Pc [.ref (ad 0), .int x1] (rgU D vwCl dA twL ad sz τ)) (va_Qi K (rgU D vwCl dA twL ad sz) (rgAd twL ad)) 0 0 (rgAd twL ad) := by
  refine tw_metz hJ (by decide) rfl (Nat.le_of_ble_eq_true rfl) ?_
  intro p e s m args below meth c Q hC hret hI ls hl
  have hx := hC.1.1
  have hb := hC.1.2.1
  have hl : lv_has ls 2 [(0, .ref (ad 0)), (1, .int x1)] := hl
  unfold T_doesStand at hT
  refine lv_aload_n hx hb dX6_doesStand_0 rfl (lv_at hl 0 rfl) ?_
  refine lv_iload_n hx hb dX6_doesStand_1 rfl (lv_at hl 1 rfl) ?_
  refine tc_stateOf hC hI hT ⟨Nat.le_of_ble_eq_true rfl, Nat.le_of_ble_eq_true rfl⟩ ⟨Nat.zero_le _, Nat.zero_le _⟩ hl.1 (Nat.le_of_ble_eq_true rfl) dX6_doesStand_2 (fun r2 τ1 H locs hT hI => ?_)
  refine lv_iconst (v := 2) hx hb dX6_doesStand_5 (by decide) ?_
  refine lv_icmp_eq (tgt := 11) hx hb dX6_doesStand_6 (by decide) (fun hc => ?_) (fun hc => ?_)
  · have hT := hT.1 hc
    refine lv_aload_n hx hb dX6_doesStand_11 rfl (lv_at hl 0 rfl) ?_
    refine lv_iconst (v := 0) hx hb dX6_doesStand_12 (by decide) ?_
    refine tc_isTold hC hI hT ⟨Nat.le_of_ble_eq_true rfl, Nat.le_of_ble_eq_true rfl⟩ ⟨Nat.zero_le _, Nat.zero_le _⟩ hl.1 (Nat.le_of_ble_eq_true rfl) dX6_doesStand_13 (fun r4 τ3 H locs hT hI => ?_)
    refine lv_if_eq (tgt := 38) hx hb dX6_doesStand_16 (by decide) (fun hc => ?_) (fun hc => ?_)
    · have hT := hT.1 hc
      refine lv_aload_n hx hb dX6_doesStand_38 rfl (lv_at hl 0 rfl) ?_
      refine lv_iload_n hx hb dX6_doesStand_39 rfl (lv_at hl 1 rfl) ?_
      refine tc_mendsOf hC hI hT ⟨Nat.le_of_ble_eq_true rfl, Nat.le_of_ble_eq_true rfl⟩ ⟨Nat.zero_le _, Nat.zero_le _⟩ hl.1 (Nat.le_of_ble_eq_true rfl) dX6_doesStand_40 (fun r6 τ5 H locs hT hI => ?_)
      refine lv_if_le (tgt := 50) hx hb dX6_doesStand_43 (by decide) (fun hc => ?_) (fun hc => ?_)
      · have hT := hT.1 hc
        refine lv_iconst (v := 0) hx hb dX6_doesStand_50 (by decide) ?_
        exact hret _ _ _ _ _ _ (by decide) hT hI dX6_doesStand_51
      · have hT := hT.2 hc
        refine lv_iconst (v := 1) hx hb dX6_doesStand_46 (by decide) ?_
        refine lv_goto (tgt := 51) hx hb dX6_doesStand_47 (by decide) ?_
        exact hret _ _ _ _ _ _ (by decide) hT hI dX6_doesStand_51
    · have hT := hT.2 hc
      refine lv_aload_n hx hb dX6_doesStand_19 rfl (lv_at hl 0 rfl) ?_
      refine lv_iconst (v := 0) hx hb dX6_doesStand_20 (by decide) ?_
      refine lv_iload_n hx hb dX6_doesStand_21 rfl (lv_at hl 1 rfl) ?_
      refine tc_codesTell hC hI hT ⟨Nat.le_of_ble_eq_true rfl, Nat.le_of_ble_eq_true rfl⟩ ⟨Nat.zero_le _, Nat.zero_le _⟩ hl.1 (Nat.le_of_ble_eq_true rfl) dX6_doesStand_22 (fun r8 τ7 H locs hT hI => ?_)
      refine lv_lconst (v := 1) hx hb dX6_doesStand_25 (by decide) ?_
      refine rl_ne (tgt := 34) hx hb dX6_doesStand_26 dX6_doesStand_27 (by decide) (fun hc => ?_) (fun hc => ?_)
      · have hT := hT.1 hc
        refine lv_iconst (v := 0) hx hb dX6_doesStand_34 (by decide) ?_
        refine lv_goto (tgt := 51) hx hb dX6_doesStand_35 (by decide) ?_
        exact hret _ _ _ _ _ _ (by decide) hT hI dX6_doesStand_51
      · have hT := hT.2 hc
        refine lv_iconst (v := 1) hx hb dX6_doesStand_30 (by decide) ?_
        refine lv_goto (tgt := 51) hx hb dX6_doesStand_31 (by decide) ?_
        exact hret _ _ _ _ _ _ (by decide) hT hI dX6_doesStand_51
  · have hT := hT.2 hc
    refine lv_iconst (v := 0) hx hb dX6_doesStand_9 (by decide) ?_
    exact hret _ _ _ _ _ _ (by decide) hT hI dX6_doesStand_10
theorem tc_doesStand {p : Program} {l : Launch} {e : Env} {R : Room} {s : State} {m : MethodId} {args : Array Value} {below : List Frame} {meth : Method} {c : Code} {H : Heap} {locs : List Loc} {cells slots : Nat} {Q : State → Prop} {cc : ByteArray} {nL : Nat} {D : va_G} {dA : Nat → ClassId} {ad : Nat → Nat} {τ : Sto} {pc sz : Nat} {ls : Array Slot} {rest : List Value} {H0 : Heap} {x1 : Int32} {K : Int32 → Sto → Prop} (hC : tC p m c cc nL s args D dA ad) (hI : tI D dA ad sz H0 τ H locs) (hT : T_doesStand τ x1 K) (hR : 4 + 1 ≤ R.frames ∧ 8 + (2 + 11) + 86 ≤ R.locals) (hf : cells ≤ R.cells ∧ slots ≤ R.slots) (hsz : ls.size = nL) (hroom : (rest.map fun v => v.category).sum ≤ 8) (hdg : decode cc pc = .ok (.invokevirtual 470, 3)) (kk : ∀ (r : Int32) (τ1 : Sto) (H1 : Heap) (locs1 : List Loc), K r τ1 → tI D dA ad sz H0 τ1 H1 locs1 → W p l e R s m args below meth c H1 locs1 cells slots Q (F0 m (pc + 3) ls (.int r :: rest))) : W p l e R s m args below meth c H locs cells slots Q (F0 m pc ls (.int x1 :: .ref (ad 0) :: rest)) :=
  rg_calli (rg_runV hC.1 hC.2.1 hI.1 hI.2.1 tl_0 rfl (met_doesStand l D dA ad hC.2.2 sz τ x1 K hT) (lw_V q2222 q2224 qs105 q170 q2225) 1 (by decide +kernel) ⟨rfl, rfl⟩ hR rfl hsz rfl hroom hf hdg) hI.2.2 (fun r τ1 H1 l1 hk hz hP hS => kk r τ1 H1 l1 hk ⟨hP, hz, hS⟩)
set_option maxHeartbeats 4000000 in
set_option maxRecDepth 100000 in
theorem met_standSet (l : Launch) (D : va_G) (dA : Nat → ClassId) (ad : Nat → Nat) (hJ : rgJ twL ad) (sz : Nat) (τ : Sto) (K : Int32 → Sto → Prop) (hT : T_standSet τ K) : Met l yX6_standSet (ws_ yX6_standSet cX6_standSet 3 (some .int)) ({ frames := 5, cells := 0, slots := 0, locals := 107 }) (va_Pc [.ref (ad 0)] (rgU D vwCl dA twL ad sz τ)) (va_Qi K (rgU D vwCl dA twL ad sz) (rgAd twL ad)) 0 0 (rgAd twL ad) := by
  refine tw_meti hJ (by decide) rfl (Nat.le_of_ble_eq_true rfl) ?_
  intro p e s m args below meth c Q hC hret hI ls hl
  have hx := hC.1.1
  have hb := hC.1.2.1
  have hl : lv_has ls 3 [(0, .ref (ad 0))] := hl
  have w_4 : ∀ (n : Nat) (x1 : Int32) (x2 : Int32) (τ : Sto) (H : Heap) (locs : List Loc) (ls : Array Slot), T_standSet_4 K n x1 x2 τ → tI D dA ad sz s.heap τ H locs → lv_has ls 3 [(0, .ref (ad 0)), (1, .int x1), (2, .int x2)] → W p l e ({ frames := 5, cells := 0, slots := 0, locals := 107 }) s m args below meth c H locs 0 0 Q (F0 m 4 ls []) := by
    intro n
    induction n with
    | zero => intro x1 x2 τ H locs ls hT; exact hT.elim
    | succ n ih =>
      intro x1 x2 τ H locs ls hT hI hl
      unfold T_standSet_4 at hT
      refine lv_iload_n hx hb dX6_standSet_4 rfl (lv_at hl 2 rfl) ?_
      refine lv_aload_n hx hb dX6_standSet_5 rfl (lv_at hl 0 rfl) ?_
      refine tc_thingMany hC hI hT ⟨Nat.le_of_ble_eq_true rfl, Nat.le_of_ble_eq_true rfl⟩ ⟨Nat.zero_le _, Nat.zero_le _⟩ hl.1 (Nat.le_of_ble_eq_true rfl) dX6_standSet_6 (fun r2 τ1 H locs hT hI => ?_)
      refine lv_icmp_ge (tgt := 32) hx hb dX6_standSet_9 (by decide) (fun hc => ?_) (fun hc => ?_)
      · have hT := hT.1 hc
        refine lv_iload_n hx hb dX6_standSet_32 rfl (lv_at hl 1 rfl) ?_
        exact hret _ _ _ _ _ _ hT hI dX6_standSet_33
      · have hT := hT.2 hc
        refine lv_aload_n hx hb dX6_standSet_12 rfl (lv_at hl 0 rfl) ?_
        refine lv_iload_n hx hb dX6_standSet_13 rfl (lv_at hl 2 rfl) ?_
        refine tc_doesStand hC hI hT ⟨Nat.le_of_ble_eq_true rfl, Nat.le_of_ble_eq_true rfl⟩ ⟨Nat.zero_le _, Nat.zero_le _⟩ hl.1 (Nat.le_of_ble_eq_true rfl) dX6_standSet_14 (fun r4 τ3 H locs hT hI => ?_)
        refine lv_if_eq (tgt := 26) hx hb dX6_standSet_17 (by decide) (fun hc => ?_) (fun hc => ?_)
        · have hT := hT.1 hc
          refine lv_iinc (v := x2 + 1) (lv' := [(2, .int (x2 + 1)), (0, .ref (ad 0)), (1, .int x1)]) hx hb dX6_standSet_26 hl (k := 2) rfl rfl (Nat.le_of_ble_eq_true rfl) rfl (fun ls hl => ?_)
          refine lv_goto (tgt := 4) hx hb dX6_standSet_29 (by decide) ?_
          exact ih x1 (x2 + 1) τ3 _ _ _ hT hI (lv_sub hl [1, 2, 0] rfl)
        · have hT := hT.2 hc
          refine lv_iload_n hx hb dX6_standSet_20 rfl (lv_at hl 1 rfl) ?_
          refine lv_iconst (v := 1) hx hb dX6_standSet_21 (by decide) ?_
          refine lv_iload_n hx hb dX6_standSet_22 rfl (lv_at hl 2 rfl) ?_
          refine lv_ishl hx hb dX6_standSet_23 ?_
          refine lv_ior hx hb dX6_standSet_24 ?_
          refine lv_istore_n (lv' := [(1, .int (x1 ||| (1 <<< (x2 &&& 31)))), (0, .ref (ad 0)), (2, .int x2)]) hx hb dX6_standSet_25 rfl hl (Nat.le_of_ble_eq_true rfl) rfl (fun ls hl => ?_)
          refine lv_iinc (v := x2 + 1) (lv' := [(2, .int (x2 + 1)), (1, .int (x1 ||| (1 <<< (x2 &&& 31)))), (0, .ref (ad 0))]) hx hb dX6_standSet_26 hl (k := 2) rfl rfl (Nat.le_of_ble_eq_true rfl) rfl (fun ls hl => ?_)
          refine lv_goto (tgt := 4) hx hb dX6_standSet_29 (by decide) ?_
          exact ih (x1 ||| (1 <<< (x2 &&& 31))) (x2 + 1) τ3 _ _ _ hT hI (lv_sub hl [2, 1, 0] rfl)
  unfold T_standSet at hT
  refine lv_iconst (v := 0) hx hb dX6_standSet_0 (by decide) ?_
  refine lv_istore_n (lv' := [(1, .int 0), (0, .ref (ad 0))]) hx hb dX6_standSet_1 rfl hl (Nat.le_of_ble_eq_true rfl) rfl (fun ls hl => ?_)
  refine lv_iconst (v := 0) hx hb dX6_standSet_2 (by decide) ?_
  refine lv_istore_n (lv' := [(2, .int 0), (1, .int 0), (0, .ref (ad 0))]) hx hb dX6_standSet_3 rfl hl (Nat.le_of_ble_eq_true rfl) rfl (fun ls hl => ?_)
  obtain ⟨n4, hT⟩ := hT
  exact w_4 n4 0 0 τ _ _ _ hT hI (lv_sub hl [2, 1, 0] rfl)
theorem tc_standSet {p : Program} {l : Launch} {e : Env} {R : Room} {s : State} {m : MethodId} {args : Array Value} {below : List Frame} {meth : Method} {c : Code} {H : Heap} {locs : List Loc} {cells slots : Nat} {Q : State → Prop} {cc : ByteArray} {nL : Nat} {D : va_G} {dA : Nat → ClassId} {ad : Nat → Nat} {τ : Sto} {pc sz : Nat} {ls : Array Slot} {rest : List Value} {H0 : Heap} {K : Int32 → Sto → Prop} (hC : tC p m c cc nL s args D dA ad) (hI : tI D dA ad sz H0 τ H locs) (hT : T_standSet τ K) (hR : 5 + 1 ≤ R.frames ∧ 8 + (3 + 11) + 107 ≤ R.locals) (hf : cells ≤ R.cells ∧ slots ≤ R.slots) (hsz : ls.size = nL) (hroom : (rest.map fun v => v.category).sum ≤ 8) (hdg : decode cc pc = .ok (.invokevirtual 482, 3)) (kk : ∀ (r : Int32) (τ1 : Sto) (H1 : Heap) (locs1 : List Loc), K r τ1 → tI D dA ad sz H0 τ1 H1 locs1 → W p l e R s m args below meth c H1 locs1 cells slots Q (F0 m (pc + 3) ls (.int r :: rest))) : W p l e R s m args below meth c H locs cells slots Q (F0 m pc ls (.ref (ad 0) :: rest)) :=
  rg_calli (rg_runV hC.1 hC.2.1 hI.1 hI.2.1 tl_0 rfl (met_standSet l D dA ad hC.2.2 sz τ K hT) (lw_V q2218 q2220 qs104 q170 q2221) 0 (by decide +kernel) ⟨rfl, rfl⟩ hR rfl hsz rfl hroom hf hdg) hI.2.2 (fun r τ1 H1 l1 hk hz hP hS => kk r τ1 H1 l1 hk ⟨hP, hz, hS⟩)
set_option maxHeartbeats 4000000 in
set_option maxRecDepth 100000 in
theorem met_forgedMany (l : Launch) (D : va_G) (dA : Nat → ClassId) (ad : Nat → Nat) (hJ : rgJ twL ad) (sz : Nat) (τ : Sto) (K : Int32 → Sto → Prop) (hT : T_forgedMany τ K) : Met l yX6_forgedMany (ws_ yX6_forgedMany cX6_forgedMany 3 (some .int)) ({ frames := 2, cells := 0, slots := 0, locals := 33 }) (va_Pc [.ref (ad 0)] (rgU D vwCl dA twL ad sz τ)) (va_Qi K (rgU D vwCl dA twL ad sz) (rgAd twL ad)) 0 0 (rgAd twL ad) := by
  refine tw_meti hJ (by decide) rfl (Nat.le_of_ble_eq_true rfl) ?_
  intro p e s m args below meth c Q hC hret hI ls hl
  have hx := hC.1.1
  have hb := hC.1.2.1
  have hl : lv_has ls 3 [(0, .ref (ad 0))] := hl
  have w_4 : ∀ (n : Nat) (x1 : Int32) (x2 : Int32) (τ : Sto) (H : Heap) (locs : List Loc) (ls : Array Slot), T_forgedMany_4 K n x1 x2 τ → tI D dA ad sz s.heap τ H locs → lv_has ls 3 [(0, .ref (ad 0)), (1, .int x1), (2, .int x2)] → W p l e ({ frames := 2, cells := 0, slots := 0, locals := 33 }) s m args below meth c H locs 0 0 Q (F0 m 4 ls []) := by
    intro n
    induction n with
    | zero => intro x1 x2 τ H locs ls hT; exact hT.elim
    | succ n ih =>
      intro x1 x2 τ H locs ls hT hI hl
      unfold T_forgedMany_4 at hT
      refine lv_iload_n hx hb dX6_forgedMany_4 rfl (lv_at hl 2 rfl) ?_
      refine lv_aload_n hx hb dX6_forgedMany_5 rfl (lv_at hl 0 rfl) ?_
      refine tc_thingMany hC hI hT ⟨Nat.le_of_ble_eq_true rfl, Nat.le_of_ble_eq_true rfl⟩ ⟨Nat.zero_le _, Nat.zero_le _⟩ hl.1 (Nat.le_of_ble_eq_true rfl) dX6_forgedMany_6 (fun r2 τ1 H locs hT hI => ?_)
      refine lv_icmp_ge (tgt := 29) hx hb dX6_forgedMany_9 (by decide) (fun hc => ?_) (fun hc => ?_)
      · have hT := hT.1 hc
        refine lv_iload_n hx hb dX6_forgedMany_29 rfl (lv_at hl 1 rfl) ?_
        exact hret _ _ _ _ _ _ hT hI dX6_forgedMany_30
      · have hT := hT.2 hc
        refine lv_aload_n hx hb dX6_forgedMany_12 rfl (lv_at hl 0 rfl) ?_
        refine lv_iload_n hx hb dX6_forgedMany_13 rfl (lv_at hl 2 rfl) ?_
        refine tc_isForged hC hI hT ⟨Nat.le_of_ble_eq_true rfl, Nat.le_of_ble_eq_true rfl⟩ ⟨Nat.zero_le _, Nat.zero_le _⟩ hl.1 (Nat.le_of_ble_eq_true rfl) dX6_forgedMany_14 (fun r4 τ3 H locs hT hI => ?_)
        refine lv_if_eq (tgt := 23) hx hb dX6_forgedMany_17 (by decide) (fun hc => ?_) (fun hc => ?_)
        · have hT := hT.1 hc
          refine lv_iinc (v := x2 + 1) (lv' := [(2, .int (x2 + 1)), (0, .ref (ad 0)), (1, .int x1)]) hx hb dX6_forgedMany_23 hl (k := 2) rfl rfl (Nat.le_of_ble_eq_true rfl) rfl (fun ls hl => ?_)
          refine lv_goto (tgt := 4) hx hb dX6_forgedMany_26 (by decide) ?_
          exact ih x1 (x2 + 1) τ3 _ _ _ hT hI (lv_sub hl [1, 2, 0] rfl)
        · have hT := hT.2 hc
          refine lv_iinc (v := x1 + 1) (lv' := [(1, .int (x1 + 1)), (0, .ref (ad 0)), (2, .int x2)]) hx hb dX6_forgedMany_20 hl (k := 1) rfl rfl (Nat.le_of_ble_eq_true rfl) rfl (fun ls hl => ?_)
          refine lv_iinc (v := x2 + 1) (lv' := [(2, .int (x2 + 1)), (1, .int (x1 + 1)), (0, .ref (ad 0))]) hx hb dX6_forgedMany_23 hl (k := 2) rfl rfl (Nat.le_of_ble_eq_true rfl) rfl (fun ls hl => ?_)
          refine lv_goto (tgt := 4) hx hb dX6_forgedMany_26 (by decide) ?_
          exact ih (x1 + 1) (x2 + 1) τ3 _ _ _ hT hI (lv_sub hl [2, 1, 0] rfl)
  unfold T_forgedMany at hT
  refine lv_iconst (v := 0) hx hb dX6_forgedMany_0 (by decide) ?_
  refine lv_istore_n (lv' := [(1, .int 0), (0, .ref (ad 0))]) hx hb dX6_forgedMany_1 rfl hl (Nat.le_of_ble_eq_true rfl) rfl (fun ls hl => ?_)
  refine lv_iconst (v := 0) hx hb dX6_forgedMany_2 (by decide) ?_
  refine lv_istore_n (lv' := [(2, .int 0), (1, .int 0), (0, .ref (ad 0))]) hx hb dX6_forgedMany_3 rfl hl (Nat.le_of_ble_eq_true rfl) rfl (fun ls hl => ?_)
  obtain ⟨n4, hT⟩ := hT
  exact w_4 n4 0 0 τ _ _ _ hT hI (lv_sub hl [2, 1, 0] rfl)
theorem tc_forgedMany {p : Program} {l : Launch} {e : Env} {R : Room} {s : State} {m : MethodId} {args : Array Value} {below : List Frame} {meth : Method} {c : Code} {H : Heap} {locs : List Loc} {cells slots : Nat} {Q : State → Prop} {cc : ByteArray} {nL : Nat} {D : va_G} {dA : Nat → ClassId} {ad : Nat → Nat} {τ : Sto} {pc sz : Nat} {ls : Array Slot} {rest : List Value} {H0 : Heap} {K : Int32 → Sto → Prop} (hC : tC p m c cc nL s args D dA ad) (hI : tI D dA ad sz H0 τ H locs) (hT : T_forgedMany τ K) (hR : 2 + 1 ≤ R.frames ∧ 8 + (3 + 11) + 33 ≤ R.locals) (hf : cells ≤ R.cells ∧ slots ≤ R.slots) (hsz : ls.size = nL) (hroom : (rest.map fun v => v.category).sum ≤ 8) (hdg : decode cc pc = .ok (.invokevirtual 485, 3)) (kk : ∀ (r : Int32) (τ1 : Sto) (H1 : Heap) (locs1 : List Loc), K r τ1 → tI D dA ad sz H0 τ1 H1 locs1 → W p l e R s m args below meth c H1 locs1 cells slots Q (F0 m (pc + 3) ls (.int r :: rest))) : W p l e R s m args below meth c H locs cells slots Q (F0 m pc ls (.ref (ad 0) :: rest)) :=
  rg_calli (rg_runV hC.1 hC.2.1 hI.1 hI.2.1 tl_0 rfl (met_forgedMany l D dA ad hC.2.2 sz τ K hT) (lw_V q2274 q2276 qs116 q170 q2277) 0 (by decide +kernel) ⟨rfl, rfl⟩ hR rfl hsz rfl hroom hf hdg) hI.2.2 (fun r τ1 H1 l1 hk hz hP hS => kk r τ1 H1 l1 hk ⟨hP, hz, hS⟩)
