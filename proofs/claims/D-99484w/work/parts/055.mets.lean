set_option maxHeartbeats 4000000 in
set_option maxRecDepth 100000 in
theorem met_useBy (l : Launch) (D : va_G) (dA : Nat → ClassId) (ad : Nat → Nat) (hJ : rgJ twL ad) (sz : Nat) (τ : Sto) (x1 : Int32) (K : Int32 → Sto → Prop) (hT : T_useBy τ x1 K) : Met l yX6_useBy (ws_ yX6_useBy cX6_useBy 4 (some .int)) ({ frames := 2, cells := 0, slots := 0, locals := 33 }) (va_Pc [.ref (ad 0), .int x1] (rgU D vwCl dA twL ad sz τ)) (va_Qi K (rgU D vwCl dA twL ad sz) (rgAd twL ad)) 0 0 (rgAd twL ad) := by
  refine tw_meti hJ (by decide) rfl (Nat.le_of_ble_eq_true rfl) ?_
  intro p e s m args below meth c Q hC hret hI ls hl
  have hx := hC.1.1
  have hb := hC.1.2.1
  have hl : lv_has ls 4 [(0, .ref (ad 0)), (1, .int x1)] := hl
  have w_4 : ∀ (x1 : Int32) (n : Nat) (x2 : Int32) (x3 : Int32) (τ : Sto) (H : Heap) (locs : List Loc) (ls : Array Slot), T_useBy_4 K x1 n x2 x3 τ → tI D dA ad sz s.heap τ H locs → lv_has ls 4 [(0, .ref (ad 0)), (1, .int x1), (2, .int x2), (3, .int x3)] → W p l e ({ frames := 2, cells := 0, slots := 0, locals := 33 }) s m args below meth c H locs 0 0 Q (F0 m 4 ls []) := by
    intro x1 n
    induction n with
    | zero => intro x2 x3 τ H locs ls hT; exact hT.elim
    | succ n ih =>
      intro x2 x3 τ H locs ls hT hI hl
      unfold T_useBy_4 at hT
      refine lv_iload_n hx hb dX6_useBy_4 rfl (lv_at hl 3 rfl) ?_
      refine lv_aload_n hx hb dX6_useBy_5 rfl (lv_at hl 0 rfl) ?_
      refine tc_thingMany hC hI hT ⟨Nat.le_of_ble_eq_true rfl, Nat.le_of_ble_eq_true rfl⟩ ⟨Nat.zero_le _, Nat.zero_le _⟩ hl.1 (Nat.le_of_ble_eq_true rfl) dX6_useBy_6 (fun r2 τ1 H locs hT hI => ?_)
      refine lv_icmp_ge (tgt := 35) hx hb dX6_useBy_9 (by decide) (fun hc => ?_) (fun hc => ?_)
      · have hT := hT.1 hc
        refine lv_iload_n hx hb dX6_useBy_35 rfl (lv_at hl 2 rfl) ?_
        exact hret _ _ _ _ _ _ hT hI dX6_useBy_36
      · have hT := hT.2 hc
        refine lv_iload_n hx hb dX6_useBy_12 rfl (lv_at hl 1 rfl) ?_
        refine lv_iload_n hx hb dX6_useBy_13 rfl (lv_at hl 3 rfl) ?_
        refine lv_ishr hx hb dX6_useBy_14 ?_
        refine lv_iconst (v := 1) hx hb dX6_useBy_15 (by decide) ?_
        refine lv_iand hx hb dX6_useBy_16 ?_
        refine lv_iconst (v := 1) hx hb dX6_useBy_17 (by decide) ?_
        refine lv_icmp_ne (tgt := 29) hx hb dX6_useBy_18 (by decide) (fun hc => ?_) (fun hc => ?_)
        · have hT := hT.1 hc
          refine lv_iinc (v := x3 + 1) (lv' := [(3, .int (x3 + 1)), (0, .ref (ad 0)), (1, .int x1), (2, .int x2)]) hx hb dX6_useBy_29 hl (k := 3) rfl rfl (Nat.le_of_ble_eq_true rfl) rfl (fun ls hl => ?_)
          refine lv_goto (tgt := 4) hx hb dX6_useBy_32 (by decide) ?_
          exact ih x2 (x3 + 1) τ1 _ _ _ hT hI (lv_sub hl [1, 2, 3, 0] rfl)
        · have hT := hT.2 hc
          refine lv_iload_n hx hb dX6_useBy_21 rfl (lv_at hl 2 rfl) ?_
          refine lv_aload_n hx hb dX6_useBy_22 rfl (lv_at hl 0 rfl) ?_
          refine lv_iload_n hx hb dX6_useBy_23 rfl (lv_at hl 3 rfl) ?_
          refine tc_useOf hC hI hT ⟨Nat.le_of_ble_eq_true rfl, Nat.le_of_ble_eq_true rfl⟩ ⟨Nat.zero_le _, Nat.zero_le _⟩ hl.1 (Nat.le_of_ble_eq_true rfl) dX6_useBy_24 (fun r4 τ3 H locs hT hI => ?_)
          refine lv_iadd hx hb dX6_useBy_27 ?_
          refine lv_istore_n (lv' := [(2, .int (x2 + r4)), (0, .ref (ad 0)), (1, .int x1), (3, .int x3)]) hx hb dX6_useBy_28 rfl hl (Nat.le_of_ble_eq_true rfl) rfl (fun ls hl => ?_)
          refine lv_iinc (v := x3 + 1) (lv' := [(3, .int (x3 + 1)), (2, .int (x2 + r4)), (0, .ref (ad 0)), (1, .int x1)]) hx hb dX6_useBy_29 hl (k := 3) rfl rfl (Nat.le_of_ble_eq_true rfl) rfl (fun ls hl => ?_)
          refine lv_goto (tgt := 4) hx hb dX6_useBy_32 (by decide) ?_
          exact ih (x2 + r4) (x3 + 1) τ3 _ _ _ hT hI (lv_sub hl [2, 3, 1, 0] rfl)
  unfold T_useBy at hT
  refine lv_iconst (v := 0) hx hb dX6_useBy_0 (by decide) ?_
  refine lv_istore_n (lv' := [(2, .int 0), (0, .ref (ad 0)), (1, .int x1)]) hx hb dX6_useBy_1 rfl hl (Nat.le_of_ble_eq_true rfl) rfl (fun ls hl => ?_)
  refine lv_iconst (v := 0) hx hb dX6_useBy_2 (by decide) ?_
  refine lv_istore_n (lv' := [(3, .int 0), (2, .int 0), (0, .ref (ad 0)), (1, .int x1)]) hx hb dX6_useBy_3 rfl hl (Nat.le_of_ble_eq_true rfl) rfl (fun ls hl => ?_)
  obtain ⟨n4, hT⟩ := hT
  exact w_4 x1 n4 0 0 τ _ _ _ hT hI (lv_sub hl [2, 3, 1, 0] rfl)
theorem tc_useBy {p : Program} {l : Launch} {e : Env} {R : Room} {s : State} {m : MethodId} {args : Array Value} {below : List Frame} {meth : Method} {c : Code} {H : Heap} {locs : List Loc} {cells slots : Nat} {Q : State → Prop} {cc : ByteArray} {nL : Nat} {D : va_G} {dA : Nat → ClassId} {ad : Nat → Nat} {τ : Sto} {pc sz : Nat} {ls : Array Slot} {rest : List Value} {H0 : Heap} {x1 : Int32} {K : Int32 → Sto → Prop} (hC : tC p m c cc nL s args D dA ad) (hI : tI D dA ad sz H0 τ H locs) (hT : T_useBy τ x1 K) (hR : 2 + 1 ≤ R.frames ∧ 8 + (4 + 11) + 33 ≤ R.locals) (hf : cells ≤ R.cells ∧ slots ≤ R.slots) (hsz : ls.size = nL) (hroom : (rest.map fun v => v.category).sum ≤ 8) (hdg : decode cc pc = .ok (.invokevirtual 488, 3)) (kk : ∀ (r : Int32) (τ1 : Sto) (H1 : Heap) (locs1 : List Loc), K r τ1 → tI D dA ad sz H0 τ1 H1 locs1 → W p l e R s m args below meth c H1 locs1 cells slots Q (F0 m (pc + 3) ls (.int r :: rest))) : W p l e R s m args below meth c H locs cells slots Q (F0 m pc ls (.int x1 :: .ref (ad 0) :: rest)) :=
  rg_calli (rg_runV hC.1 hC.2.1 hI.1 hI.2.1 tl_0 rfl (met_useBy l D dA ad hC.2.2 sz τ x1 K hT) (lw_V q2278 q2280 qs117 q170 q2281) 1 (by decide +kernel) ⟨rfl, rfl⟩ hR rfl hsz rfl hroom hf hdg) hI.2.2 (fun r τ1 H1 l1 hk hz hP hS => kk r τ1 H1 l1 hk ⟨hP, hz, hS⟩)
set_option maxHeartbeats 4000000 in
set_option maxRecDepth 100000 in
theorem met_has (l : Launch) (D : va_G) (dA : Nat → ClassId) (ad : Nat → Nat) (hJ : rgJ twL ad) (sz : Nat) (τ : Sto) (x1 : Int32) (K : Int32 → Sto → Prop) (hT : T_has τ x1 K) : Met l yX6_has (ws_ yX6_has cX6_has 2 (some .int)) ({ frames := 6, cells := 0, slots := 0, locals := 129 }) (va_Pc [.ref (ad 0), .int x1] (rgU D vwCl dA twL ad sz τ)) (va_Qi K (rgU D vwCl dA twL ad sz) (rgAd twL ad)) 0 0 (rgAd twL ad) := by
  refine tw_meti hJ (by decide) rfl (Nat.le_of_ble_eq_true rfl) ?_
  intro p e s m args below meth c Q hC hret hI ls hl
  have hx := hC.1.1
  have hb := hC.1.2.1
  have hl : lv_has ls 2 [(0, .ref (ad 0)), (1, .int x1)] := hl
  unfold T_has at hT
  refine lv_iload_n hx hb dX6_has_0 rfl (lv_at hl 1 rfl) ?_
  by_cases c0 : x1 = 0
  · have hT := hT.1 c0
    refine lv_tableIn (tgt := 60) hx hb dX6_has_1 (by rw [c0]; decide) (by rw [c0]; decide) (by rw [c0]; rfl) (by decide) ?_
    refine lv_aload_n hx hb dX6_has_60 rfl (lv_at hl 0 rfl) ?_
    refine tg_39 hC hI dX6_has_61 ?_
    refine lv_iconst (v := 3) hx hb dX6_has_64 (by decide) ?_
    refine lv_iload_n hx hb dX6_has_65 rfl (lv_at hl 1 rfl) ?_
    refine lv_iadd hx hb dX6_has_66 ?_
    refine tw_iald hC hI tl_40 hT dX6_has_67 (fun hT => ?_)
    exact hret _ _ _ _ _ _ hT hI dX6_has_68
  have hT := hT.2 c0
  by_cases c1 : x1 = 1
  · have hT := hT.1 c1
    refine lv_tableIn (tgt := 60) hx hb dX6_has_1 (by rw [c1]; decide) (by rw [c1]; decide) (by rw [c1]; rfl) (by decide) ?_
    refine lv_aload_n hx hb dX6_has_60 rfl (lv_at hl 0 rfl) ?_
    refine tg_39 hC hI dX6_has_61 ?_
    refine lv_iconst (v := 3) hx hb dX6_has_64 (by decide) ?_
    refine lv_iload_n hx hb dX6_has_65 rfl (lv_at hl 1 rfl) ?_
    refine lv_iadd hx hb dX6_has_66 ?_
    refine tw_iald hC hI tl_40 hT dX6_has_67 (fun hT => ?_)
    exact hret _ _ _ _ _ _ hT hI dX6_has_68
  have hT := hT.2 c1
  by_cases c2 : x1 = 2
  · have hT := hT.1 c2
    refine lv_tableIn (tgt := 60) hx hb dX6_has_1 (by rw [c2]; decide) (by rw [c2]; decide) (by rw [c2]; rfl) (by decide) ?_
    refine lv_aload_n hx hb dX6_has_60 rfl (lv_at hl 0 rfl) ?_
    refine tg_39 hC hI dX6_has_61 ?_
    refine lv_iconst (v := 3) hx hb dX6_has_64 (by decide) ?_
    refine lv_iload_n hx hb dX6_has_65 rfl (lv_at hl 1 rfl) ?_
    refine lv_iadd hx hb dX6_has_66 ?_
    refine tw_iald hC hI tl_40 hT dX6_has_67 (fun hT => ?_)
    exact hret _ _ _ _ _ _ hT hI dX6_has_68
  have hT := hT.2 c2
  by_cases c3 : x1 = 3
  · have hT := hT.1 c3
    refine lv_tableIn (tgt := 69) hx hb dX6_has_1 (by rw [c3]; decide) (by rw [c3]; decide) (by rw [c3]; rfl) (by decide) ?_
    refine lv_aload_n hx hb dX6_has_69 rfl (lv_at hl 0 rfl) ?_
    refine tg_51 hC hI dX6_has_70 ?_
    refine lv_iconst (v := 0) hx hb dX6_has_73 (by decide) ?_
    refine tw_iald hC hI tl_52 hT dX6_has_74 (fun hT => ?_)
    exact hret _ _ _ _ _ _ hT hI dX6_has_75
  have hT := hT.2 c3
  by_cases c4 : x1 = 4
  · have hT := hT.1 c4
    refine lv_tableIn (tgt := 76) hx hb dX6_has_1 (by rw [c4]; decide) (by rw [c4]; decide) (by rw [c4]; rfl) (by decide) ?_
    refine lv_aload_n hx hb dX6_has_76 rfl (lv_at hl 0 rfl) ?_
    refine lv_iconst (v := 1) hx hb dX6_has_77 (by decide) ?_
    refine tc_setOf hC hI hT ⟨Nat.le_of_ble_eq_true rfl, Nat.le_of_ble_eq_true rfl⟩ ⟨Nat.zero_le _, Nat.zero_le _⟩ hl.1 (Nat.le_of_ble_eq_true rfl) dX6_has_78 (fun r2 τ1 H locs hT hI => ?_)
    refine tc_bits hC hI hT ⟨Nat.le_of_ble_eq_true rfl, Nat.le_of_ble_eq_true rfl⟩ ⟨Nat.zero_le _, Nat.zero_le _⟩ hl.1 (Nat.le_of_ble_eq_true rfl) dX6_has_81 (fun r4 τ3 H locs hT hI => ?_)
    exact hret _ _ _ _ _ _ hT hI dX6_has_84
  have hT := hT.2 c4
  by_cases c5 : x1 = 5
  · have hT := hT.1 c5
    refine lv_tableIn (tgt := 85) hx hb dX6_has_1 (by rw [c5]; decide) (by rw [c5]; decide) (by rw [c5]; rfl) (by decide) ?_
    refine lv_aload_n hx hb dX6_has_85 rfl (lv_at hl 0 rfl) ?_
    refine lv_iconst (v := 2) hx hb dX6_has_86 (by decide) ?_
    refine tc_setOf hC hI hT ⟨Nat.le_of_ble_eq_true rfl, Nat.le_of_ble_eq_true rfl⟩ ⟨Nat.zero_le _, Nat.zero_le _⟩ hl.1 (Nat.le_of_ble_eq_true rfl) dX6_has_87 (fun r6 τ5 H locs hT hI => ?_)
    refine tc_bits hC hI hT ⟨Nat.le_of_ble_eq_true rfl, Nat.le_of_ble_eq_true rfl⟩ ⟨Nat.zero_le _, Nat.zero_le _⟩ hl.1 (Nat.le_of_ble_eq_true rfl) dX6_has_90 (fun r8 τ7 H locs hT hI => ?_)
    exact hret _ _ _ _ _ _ hT hI dX6_has_93
  have hT := hT.2 c5
  by_cases c6 : x1 = 6
  · have hT := hT.1 c6
    refine lv_tableIn (tgt := 94) hx hb dX6_has_1 (by rw [c6]; decide) (by rw [c6]; decide) (by rw [c6]; rfl) (by decide) ?_
    refine lv_aload_n hx hb dX6_has_94 rfl (lv_at hl 0 rfl) ?_
    refine tc_standSet hC hI hT ⟨Nat.le_of_ble_eq_true rfl, Nat.le_of_ble_eq_true rfl⟩ ⟨Nat.zero_le _, Nat.zero_le _⟩ hl.1 (Nat.le_of_ble_eq_true rfl) dX6_has_95 (fun r10 τ9 H locs hT hI => ?_)
    refine tc_bits hC hI hT ⟨Nat.le_of_ble_eq_true rfl, Nat.le_of_ble_eq_true rfl⟩ ⟨Nat.zero_le _, Nat.zero_le _⟩ hl.1 (Nat.le_of_ble_eq_true rfl) dX6_has_98 (fun r12 τ11 H locs hT hI => ?_)
    exact hret _ _ _ _ _ _ hT hI dX6_has_101
  have hT := hT.2 c6
  by_cases c7 : x1 = 7
  · have hT := hT.1 c7
    refine lv_tableIn (tgt := 102) hx hb dX6_has_1 (by rw [c7]; decide) (by rw [c7]; decide) (by rw [c7]; rfl) (by decide) ?_
    refine lv_aload_n hx hb dX6_has_102 rfl (lv_at hl 0 rfl) ?_
    refine tc_forgedMany hC hI hT ⟨Nat.le_of_ble_eq_true rfl, Nat.le_of_ble_eq_true rfl⟩ ⟨Nat.zero_le _, Nat.zero_le _⟩ hl.1 (Nat.le_of_ble_eq_true rfl) dX6_has_103 (fun r14 τ13 H locs hT hI => ?_)
    exact hret _ _ _ _ _ _ hT hI dX6_has_106
  have hT := hT.2 c7
  by_cases c8 : x1 = 8
  · have hT := hT.1 c8
    refine lv_tableIn (tgt := 107) hx hb dX6_has_1 (by rw [c8]; decide) (by rw [c8]; decide) (by rw [c8]; rfl) (by decide) ?_
    refine lv_aload_n hx hb dX6_has_107 rfl (lv_at hl 0 rfl) ?_
    refine lv_aload_n hx hb dX6_has_108 rfl (lv_at hl 0 rfl) ?_
    refine tc_standSet hC hI hT ⟨Nat.le_of_ble_eq_true rfl, Nat.le_of_ble_eq_true rfl⟩ ⟨Nat.zero_le _, Nat.zero_le _⟩ hl.1 (Nat.le_of_ble_eq_true rfl) dX6_has_109 (fun r16 τ15 H locs hT hI => ?_)
    refine tc_useBy hC hI hT ⟨Nat.le_of_ble_eq_true rfl, Nat.le_of_ble_eq_true rfl⟩ ⟨Nat.zero_le _, Nat.zero_le _⟩ hl.1 (Nat.le_of_ble_eq_true rfl) dX6_has_112 (fun r18 τ17 H locs hT hI => ?_)
    exact hret _ _ _ _ _ _ hT hI dX6_has_115
  have hT := hT.2 c8
  by_cases c9 : x1 = 9
  · have hT := hT.1 c9
    refine lv_tableIn (tgt := 116) hx hb dX6_has_1 (by rw [c9]; decide) (by rw [c9]; decide) (by rw [c9]; rfl) (by decide) ?_
    refine lv_aload_n hx hb dX6_has_116 rfl (lv_at hl 0 rfl) ?_
    refine tg_51 hC hI dX6_has_117 ?_
    refine lv_bipush (v := 41) hx hb dX6_has_120 (by decide) ?_
    refine tw_iald hC hI tl_52 hT dX6_has_122 (fun hT => ?_)
    exact hret _ _ _ _ _ _ hT hI dX6_has_123
  have hT := hT.2 c9
  by_cases c10 : x1 = 10
  · have hT := hT.1 c10
    refine lv_tableIn (tgt := 124) hx hb dX6_has_1 (by rw [c10]; decide) (by rw [c10]; decide) (by rw [c10]; rfl) (by decide) ?_
    refine lv_aload_n hx hb dX6_has_124 rfl (lv_at hl 0 rfl) ?_
    refine tg_65 hC hI dX6_has_125 ?_
    exact hret _ _ _ _ _ _ hT hI dX6_has_128
  have hT := hT.2 c10
  refine lv_tableOut (tgt := 129) hx hb dX6_has_1 (ts_out0 (n := 11) (by decide) (fun k hk => by rcases (show k = 0 ∨ k = 1 ∨ k = 2 ∨ k = 3 ∨ k = 4 ∨ k = 5 ∨ k = 6 ∨ k = 7 ∨ k = 8 ∨ k = 9 ∨ k = 10 by omega) with rfl | rfl | rfl | rfl | rfl | rfl | rfl | rfl | rfl | rfl | rfl <;> assumption)) (by decide) ?_
  refine lv_iconst (v := -1) hx hb dX6_has_129 (by decide) ?_
  exact hret _ _ _ _ _ _ hT hI dX6_has_130
set_option maxHeartbeats 4000000 in
set_option maxRecDepth 100000 in
theorem met_letter (l : Launch) (D : va_G) (dA : Nat → ClassId) (ad : Nat → Nat) (hJ : rgJ twL ad) (sz : Nat) (τ : Sto) (x1 : Int32) (x2 : Int32) (x3 : Int32) (K : Int32 → Sto → Prop) (hT : T_letter τ x1 x2 x3 K) : Met l yX6_letter (ws_ yX6_letter cX6_letter 9 (some .int)) ({ frames := 2, cells := 0, slots := 0, locals := 37 }) (va_Pc [.ref (ad 0), .int x1, .int x2, .int x3] (rgU D vwCl dA twL ad sz τ)) (va_Qi K (rgU D vwCl dA twL ad sz) (rgAd twL ad)) 0 0 (rgAd twL ad) := by
  refine tw_meti hJ (by decide) rfl (Nat.le_of_ble_eq_true rfl) ?_
  intro p e s m args below meth c Q hC hret hI ls hl
  have hx := hC.1.1
  have hb := hC.1.2.1
  have hl : lv_has ls 9 [(0, .ref (ad 0)), (1, .int x1), (2, .int x2), (3, .int x3)] := hl
  have w_104 : ∀ (x3 : Int32) (n : Nat) (x4 : Int64) (x7 : Int32) (τ : Sto) (H : Heap) (locs : List Loc) (ls : Array Slot), T_letter_104 K x3 n x4 x7 τ → tI D dA ad sz s.heap τ H locs → lv_has ls 9 [(3, .int x3), (4, .long x4), (7, .int x7)] → W p l e ({ frames := 2, cells := 0, slots := 0, locals := 37 }) s m args below meth c H locs 0 0 Q (F0 m 104 ls []) := by
    intro x3 n
    induction n with
    | zero => intro x4 x7 τ H locs ls hT; exact hT.elim
    | succ n ih =>
      intro x4 x7 τ H locs ls hT hI hl
      unfold T_letter_104 at hT
      refine lv_iload hx hb dX6_letter_104 (lv_at hl 2 rfl) ?_
      refine lv_iload_n hx hb dX6_letter_106 rfl (lv_at hl 0 rfl) ?_
      refine lv_icmp_le (tgt := 124) hx hb dX6_letter_107 (by decide) (fun hc => ?_) (fun hc => ?_)
      · have hT := hT.1 hc
        refine lv_lload hx hb dX6_letter_124 (lv_at hl 1 rfl) ?_
        refine lv_ldc2 hx hb hC.1.2.2.2.1 (hC.1.2.2.2.2 _ q2065) dX6_letter_126 ?_
        refine lv_lrem hx hb dX6_letter_129 (by decide) ?_
        refine lv_l2i hx hb dX6_letter_130 rfl ?_
        exact hret _ _ _ _ _ _ hT hI dX6_letter_131
      · have hT := hT.2 hc
        refine lv_lload hx hb dX6_letter_110 (lv_at hl 1 rfl) ?_
        refine lv_ldc2 hx hb hC.1.2.2.2.1 (hC.1.2.2.2.2 _ q2065) dX6_letter_112 ?_
        refine lv_ldiv hx hb dX6_letter_115 (by decide) ?_
        refine lv_lstore (lv' := [(4, .long (x4 / 27)), (3, .int x3), (7, .int x7)]) hx hb dX6_letter_116 hl (Nat.le_of_ble_eq_true rfl) rfl (fun ls hl => ?_)
        refine lv_iinc (v := x7 + (-1)) (lv' := [(7, .int (x7 + (-1))), (4, .long (x4 / 27)), (3, .int x3)]) hx hb dX6_letter_118 hl (k := 2) rfl rfl (Nat.le_of_ble_eq_true rfl) rfl (fun ls hl => ?_)
        refine lv_goto (tgt := 104) hx hb dX6_letter_121 (by decide) ?_
        exact ih (x4 / 27) (x7 + (-1)) τ _ _ _ hT hI (lv_sub hl [2, 1, 0] rfl)
  have w_69 : ∀ (x3 : Int32) (x4 : Int64) (n : Nat) (x6 : Int32) (x7 : Int64) (τ : Sto) (H : Heap) (locs : List Loc) (ls : Array Slot), T_letter_69 K x3 x4 n x6 x7 τ → tI D dA ad sz s.heap τ H locs → lv_has ls 9 [(3, .int x3), (4, .long x4), (6, .int x6), (7, .long x7)] → W p l e ({ frames := 2, cells := 0, slots := 0, locals := 37 }) s m args below meth c H locs 0 0 Q (F0 m 69 ls []) := by
    intro x3 x4 n
    induction n with
    | zero => intro x6 x7 τ H locs ls hT; exact hT.elim
    | succ n ih =>
      intro x6 x7 τ H locs ls hT hI hl
      unfold T_letter_69 at hT
      refine lv_lload hx hb dX6_letter_69 (lv_at hl 3 rfl) ?_
      refine lv_lconst (v := 0) hx hb dX6_letter_71 (by decide) ?_
      refine rl_le (tgt := 90) hx hb dX6_letter_72 dX6_letter_73 (by decide) (fun hc => ?_) (fun hc => ?_)
      · have hT := hT.1 hc
        refine lv_iload_n hx hb dX6_letter_90 rfl (lv_at hl 0 rfl) ?_
        refine lv_iload hx hb dX6_letter_91 (lv_at hl 2 rfl) ?_
        refine lv_icmp_lt (tgt := 98) hx hb dX6_letter_93 (by decide) (fun hc => ?_) (fun hc => ?_)
        · have hT := hT.1 hc
          refine lv_iload hx hb dX6_letter_98 (lv_at hl 2 rfl) ?_
          refine lv_iconst (v := 1) hx hb dX6_letter_100 (by decide) ?_
          refine lv_isub hx hb dX6_letter_101 ?_
          refine lv_istore (lv' := [(7, .int (x6 - 1)), (3, .int x3), (4, .long x4), (6, .int x6)]) hx hb dX6_letter_102 hl (Nat.le_of_ble_eq_true rfl) rfl (fun ls hl => ?_)
          obtain ⟨n104, hT⟩ := hT
          exact w_104 x3 n104 x4 (x6 - 1) τ _ _ _ hT hI (lv_sub hl [1, 2, 0] rfl)
        · have hT := hT.2 hc
          refine lv_iconst (v := 0) hx hb dX6_letter_96 (by decide) ?_
          exact hret _ _ _ _ _ _ hT hI dX6_letter_97
      · have hT := hT.2 hc
        refine lv_iinc (v := x6 + 1) (lv' := [(6, .int (x6 + 1)), (3, .int x3), (4, .long x4), (7, .long x7)]) hx hb dX6_letter_76 hl (k := 2) rfl rfl (Nat.le_of_ble_eq_true rfl) rfl (fun ls hl => ?_)
        refine lv_lload hx hb dX6_letter_79 (lv_at hl 3 rfl) ?_
        refine lv_ldc2 hx hb hC.1.2.2.2.1 (hC.1.2.2.2.2 _ q2065) dX6_letter_81 ?_
        refine lv_ldiv hx hb dX6_letter_84 (by decide) ?_
        refine lv_lstore (lv' := [(7, .long (x7 / 27)), (6, .int (x6 + 1)), (3, .int x3), (4, .long x4)]) hx hb dX6_letter_85 hl (Nat.le_of_ble_eq_true rfl) rfl (fun ls hl => ?_)
        refine lv_goto (tgt := 69) hx hb dX6_letter_87 (by decide) ?_
        exact ih (x6 + 1) (x7 / 27) τ _ _ _ hT hI (lv_sub hl [2, 3, 1, 0] rfl)
  unfold T_letter at hT
  refine lv_iload_n hx hb dX6_letter_0 rfl (lv_at hl 1 rfl) ?_
  refine lv_i2l hx hb dX6_letter_1 rfl ?_
  refine lv_lconst (v := 0) hx hb dX6_letter_2 (by decide) ?_
  refine lv_ldc2 hx hb hC.1.2.2.2.1 (hC.1.2.2.2.2 _ q2286) dX6_letter_3 ?_
  refine tc_isIn hC hI hT ⟨Nat.le_of_ble_eq_true rfl, Nat.le_of_ble_eq_true rfl⟩ ⟨Nat.zero_le _, Nat.zero_le _⟩ hl.1 (Nat.le_of_ble_eq_true rfl) dX6_letter_6 (fun r2 τ1 H locs hT hI => ?_)
  refine lv_if_eq (tgt := 44) hx hb dX6_letter_9 (by decide) (fun hc => ?_) (fun hc => ?_)
  · have hT := hT.1 hc
    refine lv_iconst (v := -1) hx hb dX6_letter_44 (by decide) ?_
    exact hret _ _ _ _ _ _ hT hI dX6_letter_45
  · have hT := hT.2 hc
    refine lv_iload_n hx hb dX6_letter_12 rfl (lv_at hl 2 rfl) ?_
    refine lv_i2l hx hb dX6_letter_13 rfl ?_
    refine lv_lconst (v := 0) hx hb dX6_letter_14 (by decide) ?_
    refine lv_aload_n hx hb dX6_letter_15 rfl (lv_at hl 0 rfl) ?_
    refine tg_39 hC hI dX6_letter_16 ?_
    refine lv_iconst (v := 3) hx hb dX6_letter_19 (by decide) ?_
    refine lv_iload_n hx hb dX6_letter_20 rfl (lv_at hl 1 rfl) ?_
    refine lv_iadd hx hb dX6_letter_21 ?_
    refine tw_iald hC hI tl_40 hT dX6_letter_22 (fun hT => ?_)
    refine lv_iconst (v := 1) hx hb dX6_letter_23 (by decide) ?_
    refine lv_isub hx hb dX6_letter_24 ?_
    refine lv_i2l hx hb dX6_letter_25 rfl ?_
    refine tc_isIn hC hI hT ⟨Nat.le_of_ble_eq_true rfl, Nat.le_of_ble_eq_true rfl⟩ ⟨Nat.zero_le _, Nat.zero_le _⟩ hl.1 (Nat.le_of_ble_eq_true rfl) dX6_letter_26 (fun r4 τ3 H locs hT hI => ?_)
    refine lv_if_eq (tgt := 44) hx hb dX6_letter_29 (by decide) (fun hc => ?_) (fun hc => ?_)
    · have hT := hT.1 hc
      refine lv_iconst (v := -1) hx hb dX6_letter_44 (by decide) ?_
      exact hret _ _ _ _ _ _ hT hI dX6_letter_45
    · have hT := hT.2 hc
      refine lv_iload_n hx hb dX6_letter_32 rfl (lv_at hl 3 rfl) ?_
      refine lv_i2l hx hb dX6_letter_33 rfl ?_
      refine lv_lconst (v := 0) hx hb dX6_letter_34 (by decide) ?_
      refine lv_ldc2 hx hb hC.1.2.2.2.1 (hC.1.2.2.2.2 _ q2287) dX6_letter_35 ?_
      refine tc_isIn hC hI hT ⟨Nat.le_of_ble_eq_true rfl, Nat.le_of_ble_eq_true rfl⟩ ⟨Nat.zero_le _, Nat.zero_le _⟩ hl.1 (Nat.le_of_ble_eq_true rfl) dX6_letter_38 (fun r6 τ5 H locs hT hI => ?_)
      refine lv_if_ne (tgt := 46) hx hb dX6_letter_41 (by decide) (fun hc => ?_) (fun hc => ?_)
      · have hT := hT.1 hc
        refine lv_aload_n hx hb dX6_letter_46 rfl (lv_at hl 0 rfl) ?_
        refine tg_40 hC hI dX6_letter_47 ?_
        refine lv_bipush (v := 24) hx hb dX6_letter_50 (by decide) ?_
        refine lv_bipush (v := 8) hx hb dX6_letter_52 (by decide) ?_
        refine lv_iload_n hx hb dX6_letter_54 rfl (lv_at hl 1 rfl) ?_
        refine lv_imul hx hb dX6_letter_55 ?_
        refine lv_iadd hx hb dX6_letter_56 ?_
        refine lv_iload_n hx hb dX6_letter_57 rfl (lv_at hl 2 rfl) ?_
        refine lv_iadd hx hb dX6_letter_58 ?_
        refine tw_lald hC hI tl_41 hT dX6_letter_59 (fun hT => ?_)
        refine lv_topl (fun y7 h8 => ?_)
        have hT := hT y7 h8
        refine lv_lstore (lv' := [(4, .long y7), (0, .ref (ad 0)), (1, .int x1), (2, .int x2), (3, .int x3)]) hx hb dX6_letter_60 hl (Nat.le_of_ble_eq_true rfl) rfl (fun ls hl => ?_)
        refine lv_iconst (v := 0) hx hb dX6_letter_62 (by decide) ?_
        refine lv_istore (lv' := [(6, .int 0), (4, .long y7), (0, .ref (ad 0)), (1, .int x1), (2, .int x2), (3, .int x3)]) hx hb dX6_letter_63 hl (Nat.le_of_ble_eq_true rfl) rfl (fun ls hl => ?_)
        refine lv_lload hx hb dX6_letter_65 (lv_at hl 1 rfl) ?_
        refine lv_lstore (lv' := [(7, .long y7), (6, .int 0), (4, .long y7), (0, .ref (ad 0)), (1, .int x1), (2, .int x2), (3, .int x3)]) hx hb dX6_letter_67 hl (Nat.le_of_ble_eq_true rfl) rfl (fun ls hl => ?_)
        obtain ⟨n69, hT⟩ := hT
        exact w_69 x3 y7 n69 0 y7 τ5 _ _ _ hT hI (lv_sub hl [6, 2, 1, 0] rfl)
      · have hT := hT.2 hc
        refine lv_iconst (v := -1) hx hb dX6_letter_44 (by decide) ?_
        exact hret _ _ _ _ _ _ hT hI dX6_letter_45
set_option maxHeartbeats 4000000 in
set_option maxRecDepth 100000 in
theorem met_isThing (l : Launch) (D : va_G) (dA : Nat → ClassId) (ad : Nat → Nat) (hJ : rgJ twL ad) (sz : Nat) (τ : Sto) (x1 : Int32) (K : Int32 → Sto → Prop) (hT : T_isThing τ x1 K) : Met l yX6_isThing (ws_ yX6_isThing cX6_isThing 2 (some .boolean)) ({ frames := 2, cells := 0, slots := 0, locals := 37 }) (va_Pc [.ref (ad 0), .int x1] (rgU D vwCl dA twL ad sz τ)) (va_Qi K (rgU D vwCl dA twL ad sz) (rgAd twL ad)) 0 0 (rgAd twL ad) := by
  refine tw_metz hJ (by decide) rfl (Nat.le_of_ble_eq_true rfl) ?_
  intro p e s m args below meth c Q hC hret hI ls hl
  have hx := hC.1.1
  have hb := hC.1.2.1
  have hl : lv_has ls 2 [(0, .ref (ad 0)), (1, .int x1)] := hl
  unfold T_isThing at hT
  refine lv_iload_n hx hb dX6_isThing_0 rfl (lv_at hl 1 rfl) ?_
  refine lv_i2l hx hb dX6_isThing_1 rfl ?_
  refine lv_lconst (v := 0) hx hb dX6_isThing_2 (by decide) ?_
  refine lv_aload_n hx hb dX6_isThing_3 rfl (lv_at hl 0 rfl) ?_
  refine tc_thingMany hC hI hT ⟨Nat.le_of_ble_eq_true rfl, Nat.le_of_ble_eq_true rfl⟩ ⟨Nat.zero_le _, Nat.zero_le _⟩ hl.1 (Nat.le_of_ble_eq_true rfl) dX6_isThing_4 (fun r2 τ1 H locs hT hI => ?_)
  refine lv_iconst (v := 1) hx hb dX6_isThing_7 (by decide) ?_
  refine lv_isub hx hb dX6_isThing_8 ?_
  refine lv_i2l hx hb dX6_isThing_9 rfl ?_
  refine tc_isIn hC hI hT ⟨Nat.le_of_ble_eq_true rfl, Nat.le_of_ble_eq_true rfl⟩ ⟨Nat.zero_le _, Nat.zero_le _⟩ hl.1 (Nat.le_of_ble_eq_true rfl) dX6_isThing_10 (fun r4 τ3 H locs hT hI => ?_)
  exact hret _ _ _ _ _ _ hT.1 hT.2 hI dX6_isThing_13
theorem tc_isThing {p : Program} {l : Launch} {e : Env} {R : Room} {s : State} {m : MethodId} {args : Array Value} {below : List Frame} {meth : Method} {c : Code} {H : Heap} {locs : List Loc} {cells slots : Nat} {Q : State → Prop} {cc : ByteArray} {nL : Nat} {D : va_G} {dA : Nat → ClassId} {ad : Nat → Nat} {τ : Sto} {pc sz : Nat} {ls : Array Slot} {rest : List Value} {H0 : Heap} {x1 : Int32} {K : Int32 → Sto → Prop} (hC : tC p m c cc nL s args D dA ad) (hI : tI D dA ad sz H0 τ H locs) (hT : T_isThing τ x1 K) (hR : 2 + 1 ≤ R.frames ∧ 8 + (2 + 11) + 37 ≤ R.locals) (hf : cells ≤ R.cells ∧ slots ≤ R.slots) (hsz : ls.size = nL) (hroom : (rest.map fun v => v.category).sum ≤ 8) (hdg : decode cc pc = .ok (.invokevirtual 495, 3)) (kk : ∀ (r : Int32) (τ1 : Sto) (H1 : Heap) (locs1 : List Loc), K r τ1 → tI D dA ad sz H0 τ1 H1 locs1 → W p l e R s m args below meth c H1 locs1 cells slots Q (F0 m (pc + 3) ls (.int r :: rest))) : W p l e R s m args below meth c H locs cells slots Q (F0 m pc ls (.int x1 :: .ref (ad 0) :: rest)) :=
  rg_calli (rg_runV hC.1 hC.2.1 hI.1 hI.2.1 tl_0 rfl (met_isThing l D dA ad hC.2.2 sz τ x1 K hT) (lw_V q2292 q2294 qs118 q170 q2295) 1 (by decide +kernel) ⟨rfl, rfl⟩ hR rfl hsz rfl hroom hf hdg) hI.2.2 (fun r τ1 H1 l1 hk hz hP hS => kk r τ1 H1 l1 hk ⟨hP, hz, hS⟩)
set_option maxHeartbeats 4000000 in
set_option maxRecDepth 100000 in
theorem met_thing (l : Launch) (D : va_G) (dA : Nat → ClassId) (ad : Nat → Nat) (hJ : rgJ twL ad) (sz : Nat) (τ : Sto) (x1 : Int32) (x2 : Int32) (K : Int32 → Sto → Prop) (hT : T_thing τ x1 x2 K) : Met l yX6_thing (ws_ yX6_thing cX6_thing 3 (some .int)) ({ frames := 5, cells := 0, slots := 0, locals := 107 }) (va_Pc [.ref (ad 0), .int x1, .int x2] (rgU D vwCl dA twL ad sz τ)) (va_Qi K (rgU D vwCl dA twL ad sz) (rgAd twL ad)) 0 0 (rgAd twL ad) := by
  refine tw_meti hJ (by decide) rfl (Nat.le_of_ble_eq_true rfl) ?_
  intro p e s m args below meth c Q hC hret hI ls hl
  have hx := hC.1.1
  have hb := hC.1.2.1
  have hl : lv_has ls 3 [(0, .ref (ad 0)), (1, .int x1), (2, .int x2)] := hl
  unfold T_thing at hT
  refine lv_aload_n hx hb dX6_thing_0 rfl (lv_at hl 0 rfl) ?_
  refine lv_iload_n hx hb dX6_thing_1 rfl (lv_at hl 1 rfl) ?_
  refine tc_isThing hC hI hT ⟨Nat.le_of_ble_eq_true rfl, Nat.le_of_ble_eq_true rfl⟩ ⟨Nat.zero_le _, Nat.zero_le _⟩ hl.1 (Nat.le_of_ble_eq_true rfl) dX6_thing_2 (fun r2 τ1 H locs hT hI => ?_)
  refine lv_if_ne (tgt := 10) hx hb dX6_thing_5 (by decide) (fun hc => ?_) (fun hc => ?_)
  · have hT := hT.1 hc
    refine lv_iload_n hx hb dX6_thing_10 rfl (lv_at hl 2 rfl) ?_
    refine lv_i2l hx hb dX6_thing_11 rfl ?_
    refine lv_lconst (v := 0) hx hb dX6_thing_12 (by decide) ?_
    refine lv_ldc2 hx hb hC.1.2.2.2.1 (hC.1.2.2.2.2 _ q2286) dX6_thing_13 ?_
    refine tc_isIn hC hI hT ⟨Nat.le_of_ble_eq_true rfl, Nat.le_of_ble_eq_true rfl⟩ ⟨Nat.zero_le _, Nat.zero_le _⟩ hl.1 (Nat.le_of_ble_eq_true rfl) dX6_thing_16 (fun r4 τ3 H locs hT hI => ?_)
    refine lv_if_eq (tgt := 36) hx hb dX6_thing_19 (by decide) (fun hc => ?_) (fun hc => ?_)
    · have hT := hT.1 hc
      refine lv_iload_n hx hb dX6_thing_36 rfl (lv_at hl 2 rfl) ?_
      refine lv_i2l hx hb dX6_thing_37 rfl ?_
      refine lv_ldc2 hx hb hC.1.2.2.2.1 (hC.1.2.2.2.2 _ q2296) dX6_thing_38 ?_
      refine lv_ldc2 hx hb hC.1.2.2.2.1 (hC.1.2.2.2.2 _ q2297) dX6_thing_41 ?_
      refine tc_isIn hC hI hT ⟨Nat.le_of_ble_eq_true rfl, Nat.le_of_ble_eq_true rfl⟩ ⟨Nat.zero_le _, Nat.zero_le _⟩ hl.1 (Nat.le_of_ble_eq_true rfl) dX6_thing_44 (fun r6 τ5 H locs hT hI => ?_)
      refine lv_if_eq (tgt := 65) hx hb dX6_thing_47 (by decide) (fun hc => ?_) (fun hc => ?_)
      · have hT := hT.1 hc
        refine lv_iload_n hx hb dX6_thing_65 rfl (lv_at hl 2 rfl) ?_
        refine lv_bipush (v := 8) hx hb dX6_thing_66 (by decide) ?_
        refine lv_icmp_ne (tgt := 87) hx hb dX6_thing_68 (by decide) (fun hc => ?_) (fun hc => ?_)
        · have hT := hT.1 hc
          refine lv_iconst (v := -1) hx hb dX6_thing_87 (by decide) ?_
          exact hret _ _ _ _ _ _ hT hI dX6_thing_88
        · have hT := hT.2 hc
          refine lv_aload_n hx hb dX6_thing_71 rfl (lv_at hl 0 rfl) ?_
          refine lv_iload_n hx hb dX6_thing_72 rfl (lv_at hl 1 rfl) ?_
          refine tc_doesStand hC hI hT ⟨Nat.le_of_ble_eq_true rfl, Nat.le_of_ble_eq_true rfl⟩ ⟨Nat.zero_le _, Nat.zero_le _⟩ hl.1 (Nat.le_of_ble_eq_true rfl) dX6_thing_73 (fun r8 τ7 H locs hT hI => ?_)
          refine lv_if_eq (tgt := 83) hx hb dX6_thing_76 (by decide) (fun hc => ?_) (fun hc => ?_)
          · have hT := hT.1 hc
            refine lv_iconst (v := 0) hx hb dX6_thing_83 (by decide) ?_
            refine lv_goto (tgt := 88) hx hb dX6_thing_84 (by decide) ?_
            exact hret _ _ _ _ _ _ hT hI dX6_thing_88
          · have hT := hT.2 hc
            refine lv_iconst (v := 1) hx hb dX6_thing_79 (by decide) ?_
            refine lv_goto (tgt := 88) hx hb dX6_thing_80 (by decide) ?_
            exact hret _ _ _ _ _ _ hT hI dX6_thing_88
      · have hT := hT.2 hc
        refine lv_aload_n hx hb dX6_thing_50 rfl (lv_at hl 0 rfl) ?_
        refine tg_51 hC hI dX6_thing_51 ?_
        refine lv_iconst (v := 1) hx hb dX6_thing_54 (by decide) ?_
        refine lv_iconst (v := 5) hx hb dX6_thing_55 (by decide) ?_
        refine lv_iload_n hx hb dX6_thing_56 rfl (lv_at hl 1 rfl) ?_
        refine lv_imul hx hb dX6_thing_57 ?_
        refine lv_iadd hx hb dX6_thing_58 ?_
        refine lv_iload_n hx hb dX6_thing_59 rfl (lv_at hl 2 rfl) ?_
        refine lv_iadd hx hb dX6_thing_60 ?_
        refine lv_iconst (v := 3) hx hb dX6_thing_61 (by decide) ?_
        refine lv_isub hx hb dX6_thing_62 ?_
        refine tw_iald hC hI tl_52 hT dX6_thing_63 (fun hT => ?_)
        exact hret _ _ _ _ _ _ hT hI dX6_thing_64
    · have hT := hT.2 hc
      refine lv_aload_n hx hb dX6_thing_22 rfl (lv_at hl 0 rfl) ?_
      refine tg_41 hC hI dX6_thing_23 ?_
      refine lv_bipush (v := 24) hx hb dX6_thing_26 (by decide) ?_
      refine lv_iconst (v := 3) hx hb dX6_thing_28 (by decide) ?_
      refine lv_iload_n hx hb dX6_thing_29 rfl (lv_at hl 1 rfl) ?_
      refine lv_imul hx hb dX6_thing_30 ?_
      refine lv_iadd hx hb dX6_thing_31 ?_
      refine lv_iload_n hx hb dX6_thing_32 rfl (lv_at hl 2 rfl) ?_
      refine lv_iadd hx hb dX6_thing_33 ?_
      refine tw_iald hC hI tl_42 hT dX6_thing_34 (fun hT => ?_)
      exact hret _ _ _ _ _ _ hT hI dX6_thing_35
  · have hT := hT.2 hc
    refine lv_iconst (v := -1) hx hb dX6_thing_8 (by decide) ?_
    exact hret _ _ _ _ _ _ hT hI dX6_thing_9
set_option maxHeartbeats 4000000 in
set_option maxRecDepth 100000 in
theorem met_menderMany (l : Launch) (D : va_G) (dA : Nat → ClassId) (ad : Nat → Nat) (hJ : rgJ twL ad) (sz : Nat) (τ : Sto) (K : Int32 → Sto → Prop) (hT : T_menderMany τ K) : Met l yX6_menderMany (ws_ yX6_menderMany cX6_menderMany 1 (some .int)) ({ frames := 1, cells := 0, slots := 0, locals := 12 }) (va_Pc [.ref (ad 0)] (rgU D vwCl dA twL ad sz τ)) (va_Qi K (rgU D vwCl dA twL ad sz) (rgAd twL ad)) 0 0 (rgAd twL ad) := by
  refine tw_meti hJ (by decide) rfl (Nat.le_of_ble_eq_true rfl) ?_
  intro p e s m args below meth c Q hC hret hI ls hl
  have hx := hC.1.1
  have hb := hC.1.2.1
  have hl : lv_has ls 1 [(0, .ref (ad 0))] := hl
  unfold T_menderMany at hT
  refine lv_aload_n hx hb dX6_menderMany_0 rfl (lv_at hl 0 rfl) ?_
  refine tg_39 hC hI dX6_menderMany_1 ?_
  refine lv_iconst (v := 4) hx hb dX6_menderMany_4 (by decide) ?_
  refine tw_iald hC hI tl_40 hT dX6_menderMany_5 (fun hT => ?_)
  exact hret _ _ _ _ _ _ hT hI dX6_menderMany_6
theorem tc_menderMany {p : Program} {l : Launch} {e : Env} {R : Room} {s : State} {m : MethodId} {args : Array Value} {below : List Frame} {meth : Method} {c : Code} {H : Heap} {locs : List Loc} {cells slots : Nat} {Q : State → Prop} {cc : ByteArray} {nL : Nat} {D : va_G} {dA : Nat → ClassId} {ad : Nat → Nat} {τ : Sto} {pc sz : Nat} {ls : Array Slot} {rest : List Value} {H0 : Heap} {K : Int32 → Sto → Prop} (hC : tC p m c cc nL s args D dA ad) (hI : tI D dA ad sz H0 τ H locs) (hT : T_menderMany τ K) (hR : 1 + 1 ≤ R.frames ∧ 8 + (1 + 11) + 12 ≤ R.locals) (hf : cells ≤ R.cells ∧ slots ≤ R.slots) (hsz : ls.size = nL) (hroom : (rest.map fun v => v.category).sum ≤ 8) (hdg : decode cc pc = .ok (.invokevirtual 395, 3)) (kk : ∀ (r : Int32) (τ1 : Sto) (H1 : Heap) (locs1 : List Loc), K r τ1 → tI D dA ad sz H0 τ1 H1 locs1 → W p l e R s m args below meth c H1 locs1 cells slots Q (F0 m (pc + 3) ls (.int r :: rest))) : W p l e R s m args below meth c H locs cells slots Q (F0 m pc ls (.ref (ad 0) :: rest)) :=
  rg_calli (rg_runV hC.1 hC.2.1 hI.1 hI.2.1 tl_0 rfl (met_menderMany l D dA ad hC.2.2 sz τ K hT) (lw_V q2306 q2308 qs120 q170 q2309) 0 (by decide +kernel) ⟨rfl, rfl⟩ hR rfl hsz rfl hroom hf hdg) hI.2.2 (fun r τ1 H1 l1 hk hz hP hS => kk r τ1 H1 l1 hk ⟨hP, hz, hS⟩)
set_option maxHeartbeats 4000000 in
set_option maxRecDepth 100000 in
theorem met_isMender (l : Launch) (D : va_G) (dA : Nat → ClassId) (ad : Nat → Nat) (hJ : rgJ twL ad) (sz : Nat) (τ : Sto) (x1 : Int32) (K : Int32 → Sto → Prop) (hT : T_isMender τ x1 K) : Met l yX6_isMender (ws_ yX6_isMender cX6_isMender 2 (some .boolean)) ({ frames := 2, cells := 0, slots := 0, locals := 37 }) (va_Pc [.ref (ad 0), .int x1] (rgU D vwCl dA twL ad sz τ)) (va_Qi K (rgU D vwCl dA twL ad sz) (rgAd twL ad)) 0 0 (rgAd twL ad) := by
  refine tw_metz hJ (by decide) rfl (Nat.le_of_ble_eq_true rfl) ?_
  intro p e s m args below meth c Q hC hret hI ls hl
  have hx := hC.1.1
  have hb := hC.1.2.1
  have hl : lv_has ls 2 [(0, .ref (ad 0)), (1, .int x1)] := hl
  unfold T_isMender at hT
  refine lv_iload_n hx hb dX6_isMender_0 rfl (lv_at hl 1 rfl) ?_
  refine lv_i2l hx hb dX6_isMender_1 rfl ?_
  refine lv_lconst (v := 0) hx hb dX6_isMender_2 (by decide) ?_
  refine lv_aload_n hx hb dX6_isMender_3 rfl (lv_at hl 0 rfl) ?_
  refine tc_menderMany hC hI hT ⟨Nat.le_of_ble_eq_true rfl, Nat.le_of_ble_eq_true rfl⟩ ⟨Nat.zero_le _, Nat.zero_le _⟩ hl.1 (Nat.le_of_ble_eq_true rfl) dX6_isMender_4 (fun r2 τ1 H locs hT hI => ?_)
  refine lv_iconst (v := 1) hx hb dX6_isMender_7 (by decide) ?_
  refine lv_isub hx hb dX6_isMender_8 ?_
  refine lv_i2l hx hb dX6_isMender_9 rfl ?_
  refine tc_isIn hC hI hT ⟨Nat.le_of_ble_eq_true rfl, Nat.le_of_ble_eq_true rfl⟩ ⟨Nat.zero_le _, Nat.zero_le _⟩ hl.1 (Nat.le_of_ble_eq_true rfl) dX6_isMender_10 (fun r4 τ3 H locs hT hI => ?_)
  exact hret _ _ _ _ _ _ hT.1 hT.2 hI dX6_isMender_13
theorem tc_isMender {p : Program} {l : Launch} {e : Env} {R : Room} {s : State} {m : MethodId} {args : Array Value} {below : List Frame} {meth : Method} {c : Code} {H : Heap} {locs : List Loc} {cells slots : Nat} {Q : State → Prop} {cc : ByteArray} {nL : Nat} {D : va_G} {dA : Nat → ClassId} {ad : Nat → Nat} {τ : Sto} {pc sz : Nat} {ls : Array Slot} {rest : List Value} {H0 : Heap} {x1 : Int32} {K : Int32 → Sto → Prop} (hC : tC p m c cc nL s args D dA ad) (hI : tI D dA ad sz H0 τ H locs) (hT : T_isMender τ x1 K) (hR : 2 + 1 ≤ R.frames ∧ 8 + (2 + 11) + 37 ≤ R.locals) (hf : cells ≤ R.cells ∧ slots ≤ R.slots) (hsz : ls.size = nL) (hroom : (rest.map fun v => v.category).sum ≤ 8) (hdg : decode cc pc = .ok (.invokevirtual 502, 3)) (kk : ∀ (r : Int32) (τ1 : Sto) (H1 : Heap) (locs1 : List Loc), K r τ1 → tI D dA ad sz H0 τ1 H1 locs1 → W p l e R s m args below meth c H1 locs1 cells slots Q (F0 m (pc + 3) ls (.int r :: rest))) : W p l e R s m args below meth c H locs cells slots Q (F0 m pc ls (.int x1 :: .ref (ad 0) :: rest)) :=
  rg_calli (rg_runV hC.1 hC.2.1 hI.1 hI.2.1 tl_0 rfl (met_isMender l D dA ad hC.2.2 sz τ x1 K hT) (lw_V q2302 q2304 qs119 q170 q2305) 1 (by decide +kernel) ⟨rfl, rfl⟩ hR rfl hsz rfl hroom hf hdg) hI.2.2 (fun r τ1 H1 l1 hk hz hP hS => kk r τ1 H1 l1 hk ⟨hP, hz, hS⟩)
set_option maxHeartbeats 4000000 in
set_option maxRecDepth 100000 in
theorem met_mender (l : Launch) (D : va_G) (dA : Nat → ClassId) (ad : Nat → Nat) (hJ : rgJ twL ad) (sz : Nat) (τ : Sto) (x1 : Int32) (x2 : Int32) (K : Int32 → Sto → Prop) (hT : T_mender τ x1 x2 K) : Met l yX6_mender (ws_ yX6_mender cX6_mender 3 (some .int)) ({ frames := 3, cells := 0, slots := 0, locals := 58 }) (va_Pc [.ref (ad 0), .int x1, .int x2] (rgU D vwCl dA twL ad sz τ)) (va_Qi K (rgU D vwCl dA twL ad sz) (rgAd twL ad)) 0 0 (rgAd twL ad) := by
  refine tw_meti hJ (by decide) rfl (Nat.le_of_ble_eq_true rfl) ?_
  intro p e s m args below meth c Q hC hret hI ls hl
  have hx := hC.1.1
  have hb := hC.1.2.1
  have hl : lv_has ls 3 [(0, .ref (ad 0)), (1, .int x1), (2, .int x2)] := hl
  unfold T_mender at hT
  refine lv_aload_n hx hb dX6_mender_0 rfl (lv_at hl 0 rfl) ?_
  refine lv_iload_n hx hb dX6_mender_1 rfl (lv_at hl 1 rfl) ?_
  refine tc_isMender hC hI hT ⟨Nat.le_of_ble_eq_true rfl, Nat.le_of_ble_eq_true rfl⟩ ⟨Nat.zero_le _, Nat.zero_le _⟩ hl.1 (Nat.le_of_ble_eq_true rfl) dX6_mender_2 (fun r2 τ1 H locs hT hI => ?_)
  refine lv_if_eq (tgt := 34) hx hb dX6_mender_5 (by decide) (fun hc => ?_) (fun hc => ?_)
  · have hT := hT.1 hc
    refine lv_iconst (v := -1) hx hb dX6_mender_34 (by decide) ?_
    exact hret _ _ _ _ _ _ hT hI dX6_mender_35
  · have hT := hT.2 hc
    refine lv_iload_n hx hb dX6_mender_8 rfl (lv_at hl 2 rfl) ?_
    refine lv_i2l hx hb dX6_mender_9 rfl ?_
    refine lv_lconst (v := 0) hx hb dX6_mender_10 (by decide) ?_
    refine lv_lconst (v := 1) hx hb dX6_mender_11 (by decide) ?_
    refine tc_isIn hC hI hT ⟨Nat.le_of_ble_eq_true rfl, Nat.le_of_ble_eq_true rfl⟩ ⟨Nat.zero_le _, Nat.zero_le _⟩ hl.1 (Nat.le_of_ble_eq_true rfl) dX6_mender_12 (fun r4 τ3 H locs hT hI => ?_)
    refine lv_if_eq (tgt := 34) hx hb dX6_mender_15 (by decide) (fun hc => ?_) (fun hc => ?_)
    · have hT := hT.1 hc
      refine lv_iconst (v := -1) hx hb dX6_mender_34 (by decide) ?_
      exact hret _ _ _ _ _ _ hT hI dX6_mender_35
    · have hT := hT.2 hc
      refine lv_aload_n hx hb dX6_mender_18 rfl (lv_at hl 0 rfl) ?_
      refine tg_42 hC hI dX6_mender_19 ?_
      refine lv_bipush (v := 8) hx hb dX6_mender_22 (by decide) ?_
      refine lv_iconst (v := 2) hx hb dX6_mender_24 (by decide) ?_
      refine lv_iload_n hx hb dX6_mender_25 rfl (lv_at hl 1 rfl) ?_
      refine lv_imul hx hb dX6_mender_26 ?_
      refine lv_iadd hx hb dX6_mender_27 ?_
      refine lv_iload_n hx hb dX6_mender_28 rfl (lv_at hl 2 rfl) ?_
      refine lv_iadd hx hb dX6_mender_29 ?_
      refine tw_iald hC hI tl_43 hT dX6_mender_30 (fun hT => ?_)
      refine lv_goto (tgt := 35) hx hb dX6_mender_31 (by decide) ?_
      exact hret _ _ _ _ _ _ hT hI dX6_mender_35
set_option maxHeartbeats 4000000 in
set_option maxRecDepth 100000 in
theorem met_hoursOf (l : Launch) (D : va_G) (dA : Nat → ClassId) (ad : Nat → Nat) (hJ : rgJ twL ad) (sz : Nat) (τ : Sto) (x1 : Int32) (x2 : Int32) (K : Int32 → Sto → Prop) (hT : T_hoursOf τ x1 x2 K) : Met l yX6_hoursOf (ws_ yX6_hoursOf cX6_hoursOf 5 (some .int)) ({ frames := 4, cells := 0, slots := 0, locals := 86 }) (va_Pc [.ref (ad 0), .int x1, .int x2] (rgU D vwCl dA twL ad sz τ)) (va_Qi K (rgU D vwCl dA twL ad sz) (rgAd twL ad)) 0 0 (rgAd twL ad) := by
  refine tw_meti hJ (by decide) rfl (Nat.le_of_ble_eq_true rfl) ?_
  intro p e s m args below meth c Q hC hret hI ls hl
  have hx := hC.1.1
  have hb := hC.1.2.1
  have hl : lv_has ls 5 [(0, .ref (ad 0)), (1, .int x1), (2, .int x2)] := hl
  unfold T_hoursOf at hT
  refine lv_aload_n hx hb dX6_hoursOf_0 rfl (lv_at hl 0 rfl) ?_
  refine lv_iconst (v := 2) hx hb dX6_hoursOf_1 (by decide) ?_
  refine tc_isTold hC hI hT ⟨Nat.le_of_ble_eq_true rfl, Nat.le_of_ble_eq_true rfl⟩ ⟨Nat.zero_le _, Nat.zero_le _⟩ hl.1 (Nat.le_of_ble_eq_true rfl) dX6_hoursOf_2 (fun r2 τ1 H locs hT hI => ?_)
  refine lv_if_ne (tgt := 10) hx hb dX6_hoursOf_5 (by decide) (fun hc => ?_) (fun hc => ?_)
  · have hT := hT.1 hc
    refine lv_aload_n hx hb dX6_hoursOf_10 rfl (lv_at hl 0 rfl) ?_
    refine lv_aload_n hx hb dX6_hoursOf_11 rfl (lv_at hl 0 rfl) ?_
    refine tg_42 hC hI dX6_hoursOf_12 ?_
    refine lv_bipush (v := 8) hx hb dX6_hoursOf_15 (by decide) ?_
    refine lv_iconst (v := 2) hx hb dX6_hoursOf_17 (by decide) ?_
    refine lv_iload_n hx hb dX6_hoursOf_18 rfl (lv_at hl 2 rfl) ?_
    refine lv_imul hx hb dX6_hoursOf_19 ?_
    refine lv_iadd hx hb dX6_hoursOf_20 ?_
    refine tw_iald hC hI tl_43 hT dX6_hoursOf_21 (fun hT => ?_)
    refine tp_55 hC hI hT dX6_hoursOf_22 (fun τ3 H locs hT hI => ?_)
    refine lv_aload_n hx hb dX6_hoursOf_25 rfl (lv_at hl 0 rfl) ?_
    refine lv_iconst (v := 2) hx hb dX6_hoursOf_26 (by decide) ?_
    refine lv_iload_n hx hb dX6_hoursOf_27 rfl (lv_at hl 1 rfl) ?_
    refine tc_codesTell hC hI hT ⟨Nat.le_of_ble_eq_true rfl, Nat.le_of_ble_eq_true rfl⟩ ⟨Nat.zero_le _, Nat.zero_le _⟩ hl.1 (Nat.le_of_ble_eq_true rfl) dX6_hoursOf_28 (fun r5 τ4 H locs hT hI => ?_)
    refine lv_lstore_n (lv' := [(3, .long r5), (0, .ref (ad 0)), (1, .int x1), (2, .int x2)]) hx hb dX6_hoursOf_31 rfl hl (Nat.le_of_ble_eq_true rfl) rfl (fun ls hl => ?_)
    refine lv_lload_n hx hb dX6_hoursOf_32 rfl (lv_at hl 0 rfl) ?_
    refine lv_lconst (v := 1) hx hb dX6_hoursOf_33 (by decide) ?_
    refine rl_ge (tgt := 42) hx hb dX6_hoursOf_34 dX6_hoursOf_35 (by decide) (fun hc => ?_) (fun hc => ?_)
    · have hT := hT.1 hc
      refine lv_lload_n hx hb dX6_hoursOf_42 rfl (lv_at hl 0 rfl) ?_
      refine lv_ldc2 hx hb hC.1.2.2.2.1 (hC.1.2.2.2.2 _ q2318) dX6_hoursOf_43 ?_
      refine rl_le (tgt := 55) hx hb dX6_hoursOf_46 dX6_hoursOf_47 (by decide) (fun hc => ?_) (fun hc => ?_)
      · have hT := hT.1 hc
        refine lv_lload_n hx hb dX6_hoursOf_55 rfl (lv_at hl 0 rfl) ?_
        refine lv_l2i hx hb dX6_hoursOf_56 rfl ?_
        exact hret _ _ _ _ _ _ hT hI dX6_hoursOf_57
      · have hT := hT.2 hc
        refine lv_bipush (v := 99) hx hb dX6_hoursOf_50 (by decide) ?_
        refine lv_goto (tgt := 57) hx hb dX6_hoursOf_52 (by decide) ?_
        exact hret _ _ _ _ _ _ hT hI dX6_hoursOf_57
    · have hT := hT.2 hc
      refine lv_iconst (v := 1) hx hb dX6_hoursOf_38 (by decide) ?_
      refine lv_goto (tgt := 57) hx hb dX6_hoursOf_39 (by decide) ?_
      exact hret _ _ _ _ _ _ hT hI dX6_hoursOf_57
  · have hT := hT.2 hc
    refine lv_iconst (v := 4) hx hb dX6_hoursOf_8 (by decide) ?_
    exact hret _ _ _ _ _ _ hT hI dX6_hoursOf_9
theorem tc_hoursOf {p : Program} {l : Launch} {e : Env} {R : Room} {s : State} {m : MethodId} {args : Array Value} {below : List Frame} {meth : Method} {c : Code} {H : Heap} {locs : List Loc} {cells slots : Nat} {Q : State → Prop} {cc : ByteArray} {nL : Nat} {D : va_G} {dA : Nat → ClassId} {ad : Nat → Nat} {τ : Sto} {pc sz : Nat} {ls : Array Slot} {rest : List Value} {H0 : Heap} {x1 : Int32} {x2 : Int32} {K : Int32 → Sto → Prop} (hC : tC p m c cc nL s args D dA ad) (hI : tI D dA ad sz H0 τ H locs) (hT : T_hoursOf τ x1 x2 K) (hR : 4 + 1 ≤ R.frames ∧ 8 + (5 + 11) + 86 ≤ R.locals) (hf : cells ≤ R.cells ∧ slots ≤ R.slots) (hsz : ls.size = nL) (hroom : (rest.map fun v => v.category).sum ≤ 8) (hdg : decode cc pc = .ok (.invokevirtual 445, 3)) (kk : ∀ (r : Int32) (τ1 : Sto) (H1 : Heap) (locs1 : List Loc), K r τ1 → tI D dA ad sz H0 τ1 H1 locs1 → W p l e R s m args below meth c H1 locs1 cells slots Q (F0 m (pc + 3) ls (.int r :: rest))) : W p l e R s m args below meth c H locs cells slots Q (F0 m pc ls (.int x2 :: .int x1 :: .ref (ad 0) :: rest)) :=
  rg_calli (rg_runV hC.1 hC.2.1 hI.1 hI.2.1 tl_0 rfl (met_hoursOf l D dA ad hC.2.2 sz τ x1 x2 K hT) (lw_V q2314 q2316 qs121 q170 q2317) 2 (by decide +kernel) ⟨rfl, rfl⟩ hR rfl hsz rfl hroom hf hdg) hI.2.2 (fun r τ1 H1 l1 hk hz hP hS => kk r τ1 H1 l1 hk ⟨hP, hz, hS⟩)
set_option maxHeartbeats 4000000 in
set_option maxRecDepth 100000 in
theorem met_takes (l : Launch) (D : va_G) (dA : Nat → ClassId) (ad : Nat → Nat) (hJ : rgJ twL ad) (sz : Nat) (τ : Sto) (x1 : Int32) (x2 : Int32) (K : Int32 → Sto → Prop) (hT : T_takes τ x1 x2 K) : Met l yX6_takes (ws_ yX6_takes cX6_takes 3 (some .int)) ({ frames := 5, cells := 0, slots := 0, locals := 110 }) (va_Pc [.ref (ad 0), .int x1, .int x2] (rgU D vwCl dA twL ad sz τ)) (va_Qi K (rgU D vwCl dA twL ad sz) (rgAd twL ad)) 0 0 (rgAd twL ad) := by
  refine tw_meti hJ (by decide) rfl (Nat.le_of_ble_eq_true rfl) ?_
  intro p e s m args below meth c Q hC hret hI ls hl
  have hx := hC.1.1
  have hb := hC.1.2.1
  have hl : lv_has ls 3 [(0, .ref (ad 0)), (1, .int x1), (2, .int x2)] := hl
  unfold T_takes at hT
  refine lv_aload_n hx hb dX6_takes_0 rfl (lv_at hl 0 rfl) ?_
  refine lv_iload_n hx hb dX6_takes_1 rfl (lv_at hl 1 rfl) ?_
  refine tc_isThing hC hI hT ⟨Nat.le_of_ble_eq_true rfl, Nat.le_of_ble_eq_true rfl⟩ ⟨Nat.zero_le _, Nat.zero_le _⟩ hl.1 (Nat.le_of_ble_eq_true rfl) dX6_takes_2 (fun r2 τ1 H locs hT hI => ?_)
  refine lv_if_eq (tgt := 25) hx hb dX6_takes_5 (by decide) (fun hc => ?_) (fun hc => ?_)
  · have hT := hT.1 hc
    refine lv_iconst (v := -1) hx hb dX6_takes_25 (by decide) ?_
    exact hret _ _ _ _ _ _ hT hI dX6_takes_26
  · have hT := hT.2 hc
    refine lv_aload_n hx hb dX6_takes_8 rfl (lv_at hl 0 rfl) ?_
    refine lv_iload_n hx hb dX6_takes_9 rfl (lv_at hl 2 rfl) ?_
    refine tc_isMender hC hI hT ⟨Nat.le_of_ble_eq_true rfl, Nat.le_of_ble_eq_true rfl⟩ ⟨Nat.zero_le _, Nat.zero_le _⟩ hl.1 (Nat.le_of_ble_eq_true rfl) dX6_takes_10 (fun r4 τ3 H locs hT hI => ?_)
    refine lv_if_eq (tgt := 25) hx hb dX6_takes_13 (by decide) (fun hc => ?_) (fun hc => ?_)
    · have hT := hT.1 hc
      refine lv_iconst (v := -1) hx hb dX6_takes_25 (by decide) ?_
      exact hret _ _ _ _ _ _ hT hI dX6_takes_26
    · have hT := hT.2 hc
      refine lv_aload_n hx hb dX6_takes_16 rfl (lv_at hl 0 rfl) ?_
      refine lv_iload_n hx hb dX6_takes_17 rfl (lv_at hl 1 rfl) ?_
      refine lv_iload_n hx hb dX6_takes_18 rfl (lv_at hl 2 rfl) ?_
      refine tc_hoursOf hC hI hT ⟨Nat.le_of_ble_eq_true rfl, Nat.le_of_ble_eq_true rfl⟩ ⟨Nat.zero_le _, Nat.zero_le _⟩ hl.1 (Nat.le_of_ble_eq_true rfl) dX6_takes_19 (fun r6 τ5 H locs hT hI => ?_)
      refine lv_goto (tgt := 26) hx hb dX6_takes_22 (by decide) ?_
      exact hret _ _ _ _ _ _ hT hI dX6_takes_26
set_option maxHeartbeats 4000000 in
set_option maxRecDepth 100000 in
theorem met_fineOf (l : Launch) (D : va_G) (dA : Nat → ClassId) (ad : Nat → Nat) (hJ : rgJ twL ad) (sz : Nat) (τ : Sto) (x1 : Int32) (x2 : Int32) (K : Int32 → Sto → Prop) (hT : T_fineOf τ x1 x2 K) : Met l yX6_fineOf (ws_ yX6_fineOf cX6_fineOf 5 (some .int)) ({ frames := 4, cells := 0, slots := 0, locals := 86 }) (va_Pc [.ref (ad 0), .int x1, .int x2] (rgU D vwCl dA twL ad sz τ)) (va_Qi K (rgU D vwCl dA twL ad sz) (rgAd twL ad)) 0 0 (rgAd twL ad) := by
  refine tw_meti hJ (by decide) rfl (Nat.le_of_ble_eq_true rfl) ?_
  intro p e s m args below meth c Q hC hret hI ls hl
  have hx := hC.1.1
  have hb := hC.1.2.1
  have hl : lv_has ls 5 [(0, .ref (ad 0)), (1, .int x1), (2, .int x2)] := hl
  have w_37 : ∀ (s0 : Int64) (τ : Sto) (H : Heap) (locs : List Loc) (ls : Array Slot), T_fineOf_37 K s0 τ → tI D dA ad sz s.heap τ H locs → lv_has ls 5 [] → W p l e ({ frames := 4, cells := 0, slots := 0, locals := 86 }) s m args below meth c H locs 0 0 Q (F0 m 37 ls [.long s0]) := by
    intro s0 τ H locs ls hT hI hl
    unfold T_fineOf_37 at hT
    refine lv_lstore_n (lv' := [(3, .long s0)]) hx hb dX6_fineOf_37 rfl hl (Nat.le_of_ble_eq_true rfl) rfl (fun ls hl => ?_)
    refine lv_lload_n hx hb dX6_fineOf_38 rfl (lv_at hl 0 rfl) ?_
    refine lv_lconst (v := 0) hx hb dX6_fineOf_39 (by decide) ?_
    refine rl_ge (tgt := 48) hx hb dX6_fineOf_40 dX6_fineOf_41 (by decide) (fun hc => ?_) (fun hc => ?_)
    · have hT := hT.1 hc
      refine lv_lload_n hx hb dX6_fineOf_48 rfl (lv_at hl 0 rfl) ?_
      refine lv_ldc2 hx hb hC.1.2.2.2.1 (hC.1.2.2.2.2 _ q2318) dX6_fineOf_49 ?_
      refine rl_le (tgt := 61) hx hb dX6_fineOf_52 dX6_fineOf_53 (by decide) (fun hc => ?_) (fun hc => ?_)
      · have hT := hT.1 hc
        refine lv_lload_n hx hb dX6_fineOf_61 rfl (lv_at hl 0 rfl) ?_
        refine lv_l2i hx hb dX6_fineOf_62 rfl ?_
        exact hret _ _ _ _ _ _ hT hI dX6_fineOf_63
      · have hT := hT.2 hc
        refine lv_bipush (v := 99) hx hb dX6_fineOf_56 (by decide) ?_
        refine lv_goto (tgt := 63) hx hb dX6_fineOf_58 (by decide) ?_
        exact hret _ _ _ _ _ _ hT hI dX6_fineOf_63
    · have hT := hT.2 hc
      refine lv_iconst (v := 0) hx hb dX6_fineOf_44 (by decide) ?_
      refine lv_goto (tgt := 63) hx hb dX6_fineOf_45 (by decide) ?_
      exact hret _ _ _ _ _ _ hT hI dX6_fineOf_63
  unfold T_fineOf at hT
  refine lv_aload_n hx hb dX6_fineOf_0 rfl (lv_at hl 0 rfl) ?_
  refine lv_aload_n hx hb dX6_fineOf_1 rfl (lv_at hl 0 rfl) ?_
  refine tg_42 hC hI dX6_fineOf_2 ?_
  refine lv_bipush (v := 8) hx hb dX6_fineOf_5 (by decide) ?_
  refine lv_iconst (v := 2) hx hb dX6_fineOf_7 (by decide) ?_
  refine lv_iload_n hx hb dX6_fineOf_8 rfl (lv_at hl 2 rfl) ?_
  refine lv_imul hx hb dX6_fineOf_9 ?_
  refine lv_iadd hx hb dX6_fineOf_10 ?_
  refine tw_iald hC hI tl_43 hT dX6_fineOf_11 (fun hT => ?_)
  refine tp_55 hC hI hT dX6_fineOf_12 (fun τ1 H locs hT hI => ?_)
  refine lv_aload_n hx hb dX6_fineOf_15 rfl (lv_at hl 0 rfl) ?_
  refine lv_iconst (v := 3) hx hb dX6_fineOf_16 (by decide) ?_
  refine tc_isTold hC hI hT ⟨Nat.le_of_ble_eq_true rfl, Nat.le_of_ble_eq_true rfl⟩ ⟨Nat.zero_le _, Nat.zero_le _⟩ hl.1 (Nat.le_of_ble_eq_true rfl) dX6_fineOf_17 (fun r3 τ2 H locs hT hI => ?_)
  refine lv_if_eq (tgt := 32) hx hb dX6_fineOf_20 (by decide) (fun hc => ?_) (fun hc => ?_)
  · have hT := hT.1 hc
    refine lv_aload_n hx hb dX6_fineOf_32 rfl (lv_at hl 0 rfl) ?_
    refine tg_55 hC hI dX6_fineOf_33 ?_
    refine lv_i2l hx hb dX6_fineOf_36 rfl ?_
    exact w_37 (Int32.toInt64 (τ2.1 0 55)) τ2 _ _ _ hT hI (lv_sub hl [] rfl)
  · have hT := hT.2 hc
    refine lv_aload_n hx hb dX6_fineOf_23 rfl (lv_at hl 0 rfl) ?_
    refine lv_iconst (v := 3) hx hb dX6_fineOf_24 (by decide) ?_
    refine lv_iload_n hx hb dX6_fineOf_25 rfl (lv_at hl 1 rfl) ?_
    refine tc_codesTell hC hI hT ⟨Nat.le_of_ble_eq_true rfl, Nat.le_of_ble_eq_true rfl⟩ ⟨Nat.zero_le _, Nat.zero_le _⟩ hl.1 (Nat.le_of_ble_eq_true rfl) dX6_fineOf_26 (fun r5 τ4 H locs hT hI => ?_)
    refine lv_goto (tgt := 37) hx hb dX6_fineOf_29 (by decide) ?_
    exact w_37 r5 τ4 _ _ _ hT hI (lv_sub hl [] rfl)
theorem tc_fineOf {p : Program} {l : Launch} {e : Env} {R : Room} {s : State} {m : MethodId} {args : Array Value} {below : List Frame} {meth : Method} {c : Code} {H : Heap} {locs : List Loc} {cells slots : Nat} {Q : State → Prop} {cc : ByteArray} {nL : Nat} {D : va_G} {dA : Nat → ClassId} {ad : Nat → Nat} {τ : Sto} {pc sz : Nat} {ls : Array Slot} {rest : List Value} {H0 : Heap} {x1 : Int32} {x2 : Int32} {K : Int32 → Sto → Prop} (hC : tC p m c cc nL s args D dA ad) (hI : tI D dA ad sz H0 τ H locs) (hT : T_fineOf τ x1 x2 K) (hR : 4 + 1 ≤ R.frames ∧ 8 + (5 + 11) + 86 ≤ R.locals) (hf : cells ≤ R.cells ∧ slots ≤ R.slots) (hsz : ls.size = nL) (hroom : (rest.map fun v => v.category).sum ≤ 8) (hdg : decode cc pc = .ok (.invokevirtual 442, 3)) (kk : ∀ (r : Int32) (τ1 : Sto) (H1 : Heap) (locs1 : List Loc), K r τ1 → tI D dA ad sz H0 τ1 H1 locs1 → W p l e R s m args below meth c H1 locs1 cells slots Q (F0 m (pc + 3) ls (.int r :: rest))) : W p l e R s m args below meth c H locs cells slots Q (F0 m pc ls (.int x2 :: .int x1 :: .ref (ad 0) :: rest)) :=
  rg_calli (rg_runV hC.1 hC.2.1 hI.1 hI.2.1 tl_0 rfl (met_fineOf l D dA ad hC.2.2 sz τ x1 x2 K hT) (lw_V q2323 q2325 qs122 q170 q2326) 2 (by decide +kernel) ⟨rfl, rfl⟩ hR rfl hsz rfl hroom hf hdg) hI.2.2 (fun r τ1 H1 l1 hk hz hP hS => kk r τ1 H1 l1 hk ⟨hP, hz, hS⟩)
set_option maxHeartbeats 4000000 in
set_option maxRecDepth 100000 in
theorem met_fine (l : Launch) (D : va_G) (dA : Nat → ClassId) (ad : Nat → Nat) (hJ : rgJ twL ad) (sz : Nat) (τ : Sto) (x1 : Int32) (x2 : Int32) (K : Int32 → Sto → Prop) (hT : T_fine τ x1 x2 K) : Met l yX6_fine (ws_ yX6_fine cX6_fine 3 (some .int)) ({ frames := 5, cells := 0, slots := 0, locals := 110 }) (va_Pc [.ref (ad 0), .int x1, .int x2] (rgU D vwCl dA twL ad sz τ)) (va_Qi K (rgU D vwCl dA twL ad sz) (rgAd twL ad)) 0 0 (rgAd twL ad) := by
  refine tw_meti hJ (by decide) rfl (Nat.le_of_ble_eq_true rfl) ?_
  intro p e s m args below meth c Q hC hret hI ls hl
  have hx := hC.1.1
  have hb := hC.1.2.1
  have hl : lv_has ls 3 [(0, .ref (ad 0)), (1, .int x1), (2, .int x2)] := hl
  unfold T_fine at hT
  refine lv_aload_n hx hb dX6_fine_0 rfl (lv_at hl 0 rfl) ?_
  refine lv_iload_n hx hb dX6_fine_1 rfl (lv_at hl 1 rfl) ?_
  refine tc_isThing hC hI hT ⟨Nat.le_of_ble_eq_true rfl, Nat.le_of_ble_eq_true rfl⟩ ⟨Nat.zero_le _, Nat.zero_le _⟩ hl.1 (Nat.le_of_ble_eq_true rfl) dX6_fine_2 (fun r2 τ1 H locs hT hI => ?_)
  refine lv_if_eq (tgt := 25) hx hb dX6_fine_5 (by decide) (fun hc => ?_) (fun hc => ?_)
  · have hT := hT.1 hc
    refine lv_iconst (v := -1) hx hb dX6_fine_25 (by decide) ?_
    exact hret _ _ _ _ _ _ hT hI dX6_fine_26
  · have hT := hT.2 hc
    refine lv_aload_n hx hb dX6_fine_8 rfl (lv_at hl 0 rfl) ?_
    refine lv_iload_n hx hb dX6_fine_9 rfl (lv_at hl 2 rfl) ?_
    refine tc_isMender hC hI hT ⟨Nat.le_of_ble_eq_true rfl, Nat.le_of_ble_eq_true rfl⟩ ⟨Nat.zero_le _, Nat.zero_le _⟩ hl.1 (Nat.le_of_ble_eq_true rfl) dX6_fine_10 (fun r4 τ3 H locs hT hI => ?_)
    refine lv_if_eq (tgt := 25) hx hb dX6_fine_13 (by decide) (fun hc => ?_) (fun hc => ?_)
    · have hT := hT.1 hc
      refine lv_iconst (v := -1) hx hb dX6_fine_25 (by decide) ?_
      exact hret _ _ _ _ _ _ hT hI dX6_fine_26
    · have hT := hT.2 hc
      refine lv_aload_n hx hb dX6_fine_16 rfl (lv_at hl 0 rfl) ?_
      refine lv_iload_n hx hb dX6_fine_17 rfl (lv_at hl 1 rfl) ?_
      refine lv_iload_n hx hb dX6_fine_18 rfl (lv_at hl 2 rfl) ?_
      refine tc_fineOf hC hI hT ⟨Nat.le_of_ble_eq_true rfl, Nat.le_of_ble_eq_true rfl⟩ ⟨Nat.zero_le _, Nat.zero_le _⟩ hl.1 (Nat.le_of_ble_eq_true rfl) dX6_fine_19 (fun r6 τ5 H locs hT hI => ?_)
      refine lv_goto (tgt := 26) hx hb dX6_fine_22 (by decide) ?_
      exact hret _ _ _ _ _ _ hT hI dX6_fine_26
set_option maxHeartbeats 4000000 in
set_option maxRecDepth 100000 in
theorem met_trialMany (l : Launch) (D : va_G) (dA : Nat → ClassId) (ad : Nat → Nat) (hJ : rgJ twL ad) (sz : Nat) (τ : Sto) (K : Int32 → Sto → Prop) (hT : T_trialMany τ K) : Met l yX6_trialMany (ws_ yX6_trialMany cX6_trialMany 1 (some .int)) ({ frames := 1, cells := 0, slots := 0, locals := 12 }) (va_Pc [.ref (ad 0)] (rgU D vwCl dA twL ad sz τ)) (va_Qi K (rgU D vwCl dA twL ad sz) (rgAd twL ad)) 0 0 (rgAd twL ad) := by
  refine tw_meti hJ (by decide) rfl (Nat.le_of_ble_eq_true rfl) ?_
  intro p e s m args below meth c Q hC hret hI ls hl
  have hx := hC.1.1
  have hb := hC.1.2.1
  have hl : lv_has ls 1 [(0, .ref (ad 0))] := hl
  unfold T_trialMany at hT
  refine lv_aload_n hx hb dX6_trialMany_0 rfl (lv_at hl 0 rfl) ?_
  refine tg_39 hC hI dX6_trialMany_1 ?_
  refine lv_iconst (v := 5) hx hb dX6_trialMany_4 (by decide) ?_
  refine tw_iald hC hI tl_40 hT dX6_trialMany_5 (fun hT => ?_)
  exact hret _ _ _ _ _ _ hT hI dX6_trialMany_6
theorem tc_trialMany {p : Program} {l : Launch} {e : Env} {R : Room} {s : State} {m : MethodId} {args : Array Value} {below : List Frame} {meth : Method} {c : Code} {H : Heap} {locs : List Loc} {cells slots : Nat} {Q : State → Prop} {cc : ByteArray} {nL : Nat} {D : va_G} {dA : Nat → ClassId} {ad : Nat → Nat} {τ : Sto} {pc sz : Nat} {ls : Array Slot} {rest : List Value} {H0 : Heap} {K : Int32 → Sto → Prop} (hC : tC p m c cc nL s args D dA ad) (hI : tI D dA ad sz H0 τ H locs) (hT : T_trialMany τ K) (hR : 1 + 1 ≤ R.frames ∧ 8 + (1 + 11) + 12 ≤ R.locals) (hf : cells ≤ R.cells ∧ slots ≤ R.slots) (hsz : ls.size = nL) (hroom : (rest.map fun v => v.category).sum ≤ 8) (hdg : decode cc pc = .ok (.invokevirtual 505, 3)) (kk : ∀ (r : Int32) (τ1 : Sto) (H1 : Heap) (locs1 : List Loc), K r τ1 → tI D dA ad sz H0 τ1 H1 locs1 → W p l e R s m args below meth c H1 locs1 cells slots Q (F0 m (pc + 3) ls (.int r :: rest))) : W p l e R s m args below meth c H locs cells slots Q (F0 m pc ls (.ref (ad 0) :: rest)) :=
  rg_calli (rg_runV hC.1 hC.2.1 hI.1 hI.2.1 tl_0 rfl (met_trialMany l D dA ad hC.2.2 sz τ K hT) (lw_V q2331 q2333 qs123 q170 q2334) 0 (by decide +kernel) ⟨rfl, rfl⟩ hR rfl hsz rfl hroom hf hdg) hI.2.2 (fun r τ1 H1 l1 hk hz hP hS => kk r τ1 H1 l1 hk ⟨hP, hz, hS⟩)
set_option maxHeartbeats 4000000 in
set_option maxRecDepth 100000 in
theorem met_isTrial (l : Launch) (D : va_G) (dA : Nat → ClassId) (ad : Nat → Nat) (hJ : rgJ twL ad) (sz : Nat) (τ : Sto) (x1 : Int32) (x2 : Int32) (K : Int32 → Sto → Prop) (hT : T_isTrial τ x1 x2 K) : Met l yX6_isTrial (ws_ yX6_isTrial cX6_isTrial 3 (some .boolean)) ({ frames := 4, cells := 0, slots := 0, locals := 86 }) (va_Pc [.ref (ad 0), .int x1, .int x2] (rgU D vwCl dA twL ad sz τ)) (va_Qi K (rgU D vwCl dA twL ad sz) (rgAd twL ad)) 0 0 (rgAd twL ad) := by
  refine tw_metz hJ (by decide) rfl (Nat.le_of_ble_eq_true rfl) ?_
  intro p e s m args below meth c Q hC hret hI ls hl
  have hx := hC.1.1
  have hb := hC.1.2.1
  have hl : lv_has ls 3 [(0, .ref (ad 0)), (1, .int x1), (2, .int x2)] := hl
  unfold T_isTrial at hT
  refine lv_aload_n hx hb dX6_isTrial_0 rfl (lv_at hl 0 rfl) ?_
  refine lv_iconst (v := 5) hx hb dX6_isTrial_1 (by decide) ?_
  refine lv_iload_n hx hb dX6_isTrial_2 rfl (lv_at hl 1 rfl) ?_
  refine lv_iadd hx hb dX6_isTrial_3 ?_
  refine lv_iload_n hx hb dX6_isTrial_4 rfl (lv_at hl 2 rfl) ?_
  refine tc_codesTell hC hI hT ⟨Nat.le_of_ble_eq_true rfl, Nat.le_of_ble_eq_true rfl⟩ ⟨Nat.zero_le _, Nat.zero_le _⟩ hl.1 (Nat.le_of_ble_eq_true rfl) dX6_isTrial_5 (fun r2 τ1 H locs hT hI => ?_)
  refine lv_lconst (v := 1) hx hb dX6_isTrial_8 (by decide) ?_
  refine rl_ne (tgt := 17) hx hb dX6_isTrial_9 dX6_isTrial_10 (by decide) (fun hc => ?_) (fun hc => ?_)
  · have hT := hT.1 hc
    refine lv_iconst (v := 0) hx hb dX6_isTrial_17 (by decide) ?_
    exact hret _ _ _ _ _ _ (by decide) hT hI dX6_isTrial_18
  · have hT := hT.2 hc
    refine lv_iconst (v := 1) hx hb dX6_isTrial_13 (by decide) ?_
    refine lv_goto (tgt := 18) hx hb dX6_isTrial_14 (by decide) ?_
    exact hret _ _ _ _ _ _ (by decide) hT hI dX6_isTrial_18
theorem tc_isTrial {p : Program} {l : Launch} {e : Env} {R : Room} {s : State} {m : MethodId} {args : Array Value} {below : List Frame} {meth : Method} {c : Code} {H : Heap} {locs : List Loc} {cells slots : Nat} {Q : State → Prop} {cc : ByteArray} {nL : Nat} {D : va_G} {dA : Nat → ClassId} {ad : Nat → Nat} {τ : Sto} {pc sz : Nat} {ls : Array Slot} {rest : List Value} {H0 : Heap} {x1 : Int32} {x2 : Int32} {K : Int32 → Sto → Prop} (hC : tC p m c cc nL s args D dA ad) (hI : tI D dA ad sz H0 τ H locs) (hT : T_isTrial τ x1 x2 K) (hR : 4 + 1 ≤ R.frames ∧ 8 + (3 + 11) + 86 ≤ R.locals) (hf : cells ≤ R.cells ∧ slots ≤ R.slots) (hsz : ls.size = nL) (hroom : (rest.map fun v => v.category).sum ≤ 8) (hdg : decode cc pc = .ok (.invokevirtual 508, 3)) (kk : ∀ (r : Int32) (τ1 : Sto) (H1 : Heap) (locs1 : List Loc), K r τ1 → tI D dA ad sz H0 τ1 H1 locs1 → W p l e R s m args below meth c H1 locs1 cells slots Q (F0 m (pc + 3) ls (.int r :: rest))) : W p l e R s m args below meth c H locs cells slots Q (F0 m pc ls (.int x2 :: .int x1 :: .ref (ad 0) :: rest)) :=
  rg_calli (rg_runV hC.1 hC.2.1 hI.1 hI.2.1 tl_0 rfl (met_isTrial l D dA ad hC.2.2 sz τ x1 x2 K hT) (lw_V q2335 q2337 qs124 q170 q2338) 2 (by decide +kernel) ⟨rfl, rfl⟩ hR rfl hsz rfl hroom hf hdg) hI.2.2 (fun r τ1 H1 l1 hk hz hP hS => kk r τ1 H1 l1 hk ⟨hP, hz, hS⟩)
set_option maxHeartbeats 4000000 in
set_option maxRecDepth 100000 in
theorem met_trial (l : Launch) (D : va_G) (dA : Nat → ClassId) (ad : Nat → Nat) (hJ : rgJ twL ad) (sz : Nat) (τ : Sto) (x1 : Int32) (x2 : Int32) (K : Int32 → Sto → Prop) (hT : T_trial τ x1 x2 K) : Met l yX6_trial (ws_ yX6_trial cX6_trial 3 (some .int)) ({ frames := 5, cells := 0, slots := 0, locals := 108 }) (va_Pc [.ref (ad 0), .int x1, .int x2] (rgU D vwCl dA twL ad sz τ)) (va_Qi K (rgU D vwCl dA twL ad sz) (rgAd twL ad)) 0 0 (rgAd twL ad) := by
  refine tw_meti hJ (by decide) rfl (Nat.le_of_ble_eq_true rfl) ?_
  intro p e s m args below meth c Q hC hret hI ls hl
  have hx := hC.1.1
  have hb := hC.1.2.1
  have hl : lv_has ls 3 [(0, .ref (ad 0)), (1, .int x1), (2, .int x2)] := hl
  unfold T_trial at hT
  refine lv_iload_n hx hb dX6_trial_0 rfl (lv_at hl 1 rfl) ?_
  refine lv_i2l hx hb dX6_trial_1 rfl ?_
  refine lv_lconst (v := 0) hx hb dX6_trial_2 (by decide) ?_
  refine lv_aload_n hx hb dX6_trial_3 rfl (lv_at hl 0 rfl) ?_
  refine tc_trialMany hC hI hT ⟨Nat.le_of_ble_eq_true rfl, Nat.le_of_ble_eq_true rfl⟩ ⟨Nat.zero_le _, Nat.zero_le _⟩ hl.1 (Nat.le_of_ble_eq_true rfl) dX6_trial_4 (fun r2 τ1 H locs hT hI => ?_)
  refine lv_iconst (v := 1) hx hb dX6_trial_7 (by decide) ?_
  refine lv_isub hx hb dX6_trial_8 ?_
  refine lv_i2l hx hb dX6_trial_9 rfl ?_
  refine tc_isIn hC hI hT ⟨Nat.le_of_ble_eq_true rfl, Nat.le_of_ble_eq_true rfl⟩ ⟨Nat.zero_le _, Nat.zero_le _⟩ hl.1 (Nat.le_of_ble_eq_true rfl) dX6_trial_10 (fun r4 τ3 H locs hT hI => ?_)
  refine lv_if_eq (tgt := 24) hx hb dX6_trial_13 (by decide) (fun hc => ?_) (fun hc => ?_)
  · have hT := hT.1 hc
    refine lv_iconst (v := -1) hx hb dX6_trial_24 (by decide) ?_
    exact hret _ _ _ _ _ _ hT hI dX6_trial_25
  · have hT := hT.2 hc
    refine lv_aload_n hx hb dX6_trial_16 rfl (lv_at hl 0 rfl) ?_
    refine lv_iload_n hx hb dX6_trial_17 rfl (lv_at hl 2 rfl) ?_
    refine tc_isThing hC hI hT ⟨Nat.le_of_ble_eq_true rfl, Nat.le_of_ble_eq_true rfl⟩ ⟨Nat.zero_le _, Nat.zero_le _⟩ hl.1 (Nat.le_of_ble_eq_true rfl) dX6_trial_18 (fun r6 τ5 H locs hT hI => ?_)
    refine lv_if_ne (tgt := 26) hx hb dX6_trial_21 (by decide) (fun hc => ?_) (fun hc => ?_)
    · have hT := hT.1 hc
      refine lv_aload_n hx hb dX6_trial_26 rfl (lv_at hl 0 rfl) ?_
      refine lv_iload_n hx hb dX6_trial_27 rfl (lv_at hl 1 rfl) ?_
      refine lv_iload_n hx hb dX6_trial_28 rfl (lv_at hl 2 rfl) ?_
      refine tc_isTrial hC hI hT ⟨Nat.le_of_ble_eq_true rfl, Nat.le_of_ble_eq_true rfl⟩ ⟨Nat.zero_le _, Nat.zero_le _⟩ hl.1 (Nat.le_of_ble_eq_true rfl) dX6_trial_29 (fun r8 τ7 H locs hT hI => ?_)
      refine lv_if_eq (tgt := 39) hx hb dX6_trial_32 (by decide) (fun hc => ?_) (fun hc => ?_)
      · have hT := hT.1 hc
        refine lv_iconst (v := 0) hx hb dX6_trial_39 (by decide) ?_
        exact hret _ _ _ _ _ _ hT hI dX6_trial_40
      · have hT := hT.2 hc
        refine lv_iconst (v := 1) hx hb dX6_trial_35 (by decide) ?_
        refine lv_goto (tgt := 40) hx hb dX6_trial_36 (by decide) ?_
        exact hret _ _ _ _ _ _ hT hI dX6_trial_40
    · have hT := hT.2 hc
      refine lv_iconst (v := -1) hx hb dX6_trial_24 (by decide) ?_
      exact hret _ _ _ _ _ _ hT hI dX6_trial_25
set_option maxHeartbeats 4000000 in
set_option maxRecDepth 100000 in
theorem met_kept (l : Launch) (D : va_G) (dA : Nat → ClassId) (ad : Nat → Nat) (hJ : rgJ twL ad) (sz : Nat) (τ : Sto) (x1 : Int32) (x2 : Int32) (K : Int32 → Sto → Prop) (hT : T_kept τ x1 x2 K) : Met l yX6_kept (ws_ yX6_kept cX6_kept 3 (some .int)) ({ frames := 2, cells := 0, slots := 0, locals := 37 }) (va_Pc [.ref (ad 0), .int x1, .int x2] (rgU D vwCl dA twL ad sz τ)) (va_Qi K (rgU D vwCl dA twL ad sz) (rgAd twL ad)) 0 0 (rgAd twL ad) := by
  refine tw_meti hJ (by decide) rfl (Nat.le_of_ble_eq_true rfl) ?_
  intro p e s m args below meth c Q hC hret hI ls hl
  have hx := hC.1.1
  have hb := hC.1.2.1
  have hl : lv_has ls 3 [(0, .ref (ad 0)), (1, .int x1), (2, .int x2)] := hl
  unfold T_kept at hT
  refine lv_iload_n hx hb dX6_kept_0 rfl (lv_at hl 1 rfl) ?_
  refine lv_i2l hx hb dX6_kept_1 rfl ?_
  refine lv_lconst (v := 0) hx hb dX6_kept_2 (by decide) ?_
  refine lv_aload_n hx hb dX6_kept_3 rfl (lv_at hl 0 rfl) ?_
  refine tg_51 hC hI dX6_kept_4 ?_
  refine lv_bipush (v := 41) hx hb dX6_kept_7 (by decide) ?_
  refine tw_iald hC hI tl_52 hT dX6_kept_9 (fun hT => ?_)
  refine lv_iconst (v := 1) hx hb dX6_kept_10 (by decide) ?_
  refine lv_isub hx hb dX6_kept_11 ?_
  refine lv_i2l hx hb dX6_kept_12 rfl ?_
  refine tc_isIn hC hI hT ⟨Nat.le_of_ble_eq_true rfl, Nat.le_of_ble_eq_true rfl⟩ ⟨Nat.zero_le _, Nat.zero_le _⟩ hl.1 (Nat.le_of_ble_eq_true rfl) dX6_kept_13 (fun r2 τ1 H locs hT hI => ?_)
  refine lv_if_eq (tgt := 47) hx hb dX6_kept_16 (by decide) (fun hc => ?_) (fun hc => ?_)
  · have hT := hT.1 hc
    refine lv_iconst (v := -1) hx hb dX6_kept_47 (by decide) ?_
    exact hret _ _ _ _ _ _ hT hI dX6_kept_48
  · have hT := hT.2 hc
    refine lv_iload_n hx hb dX6_kept_19 rfl (lv_at hl 2 rfl) ?_
    refine lv_i2l hx hb dX6_kept_20 rfl ?_
    refine lv_lconst (v := 0) hx hb dX6_kept_21 (by decide) ?_
    refine lv_ldc2 hx hb hC.1.2.2.2.1 (hC.1.2.2.2.2 _ q2286) dX6_kept_22 ?_
    refine tc_isIn hC hI hT ⟨Nat.le_of_ble_eq_true rfl, Nat.le_of_ble_eq_true rfl⟩ ⟨Nat.zero_le _, Nat.zero_le _⟩ hl.1 (Nat.le_of_ble_eq_true rfl) dX6_kept_25 (fun r4 τ3 H locs hT hI => ?_)
    refine lv_if_eq (tgt := 47) hx hb dX6_kept_28 (by decide) (fun hc => ?_) (fun hc => ?_)
    · have hT := hT.1 hc
      refine lv_iconst (v := -1) hx hb dX6_kept_47 (by decide) ?_
      exact hret _ _ _ _ _ _ hT hI dX6_kept_48
    · have hT := hT.2 hc
      refine lv_aload_n hx hb dX6_kept_31 rfl (lv_at hl 0 rfl) ?_
      refine tg_51 hC hI dX6_kept_32 ?_
      refine lv_bipush (v := 42) hx hb dX6_kept_35 (by decide) ?_
      refine lv_iconst (v := 3) hx hb dX6_kept_37 (by decide) ?_
      refine lv_iload_n hx hb dX6_kept_38 rfl (lv_at hl 1 rfl) ?_
      refine lv_imul hx hb dX6_kept_39 ?_
      refine lv_iadd hx hb dX6_kept_40 ?_
      refine lv_iload_n hx hb dX6_kept_41 rfl (lv_at hl 2 rfl) ?_
      refine lv_iadd hx hb dX6_kept_42 ?_
      refine tw_iald hC hI tl_52 hT dX6_kept_43 (fun hT => ?_)
      refine lv_goto (tgt := 48) hx hb dX6_kept_44 (by decide) ?_
      exact hret _ _ _ _ _ _ hT hI dX6_kept_48
set_option maxHeartbeats 4000000 in
set_option maxRecDepth 100000 in
theorem met_isAhead (l : Launch) (D : va_G) (dA : Nat → ClassId) (ad : Nat → Nat) (hJ : rgJ twL ad) (sz : Nat) (τ : Sto) (x1 : Int32) (x2 : Int32) (x3 : Int32) (K : Int32 → Sto → Prop) (hT : T_isAhead τ x1 x2 x3 K) : Met l yX6_isAhead (ws_ yX6_isAhead cX6_isAhead 4 (some .boolean)) ({ frames := 2, cells := 0, slots := 0, locals := 37 }) (va_Pc [.ref (ad 0), .int x1, .int x2, .int x3] (rgU D vwCl dA twL ad sz τ)) (va_Qi K (rgU D vwCl dA twL ad sz) (rgAd twL ad)) 0 0 (rgAd twL ad) := by
  refine tw_metz hJ (by decide) rfl (Nat.le_of_ble_eq_true rfl) ?_
  intro p e s m args below meth c Q hC hret hI ls hl
  have hx := hC.1.1
  have hb := hC.1.2.1
  have hl : lv_has ls 4 [(0, .ref (ad 0)), (1, .int x1), (2, .int x2), (3, .int x3)] := hl
  unfold T_isAhead at hT
  refine lv_iload_n hx hb dX6_isAhead_0 rfl (lv_at hl 1 rfl) ?_
  refine lv_i2l hx hb dX6_isAhead_1 rfl ?_
  refine lv_iload_n hx hb dX6_isAhead_2 rfl (lv_at hl 2 rfl) ?_
  refine lv_i2l hx hb dX6_isAhead_3 rfl ?_
  refine lv_iload_n hx hb dX6_isAhead_4 rfl (lv_at hl 3 rfl) ?_
  refine lv_i2l hx hb dX6_isAhead_5 rfl ?_
  refine tc_isIn hC hI hT ⟨Nat.le_of_ble_eq_true rfl, Nat.le_of_ble_eq_true rfl⟩ ⟨Nat.zero_le _, Nat.zero_le _⟩ hl.1 (Nat.le_of_ble_eq_true rfl) dX6_isAhead_6 (fun r2 τ1 H locs hT hI => ?_)
  refine lv_if_eq (tgt := 30) hx hb dX6_isAhead_9 (by decide) (fun hc => ?_) (fun hc => ?_)
  · have hT := hT.1 hc
    refine lv_iconst (v := 0) hx hb dX6_isAhead_30 (by decide) ?_
    exact hret _ _ _ _ _ _ (by decide) hT hI dX6_isAhead_31
  · have hT := hT.2 hc
    refine lv_aload_n hx hb dX6_isAhead_12 rfl (lv_at hl 0 rfl) ?_
    refine tg_51 hC hI dX6_isAhead_13 ?_
    refine lv_iconst (v := 0) hx hb dX6_isAhead_16 (by decide) ?_
    refine tw_iald hC hI tl_52 hT dX6_isAhead_17 (fun hT => ?_)
    refine lv_iload_n hx hb dX6_isAhead_18 rfl (lv_at hl 1 rfl) ?_
    refine lv_iadd hx hb dX6_isAhead_19 ?_
    refine lv_sipush (v := 999) hx hb dX6_isAhead_20 (by decide) ?_
    refine lv_icmp_gt (tgt := 30) hx hb dX6_isAhead_23 (by decide) (fun hc => ?_) (fun hc => ?_)
    · have hT := hT.1 hc
      refine lv_iconst (v := 0) hx hb dX6_isAhead_30 (by decide) ?_
      exact hret _ _ _ _ _ _ (by decide) hT hI dX6_isAhead_31
    · have hT := hT.2 hc
      refine lv_iconst (v := 1) hx hb dX6_isAhead_26 (by decide) ?_
      refine lv_goto (tgt := 31) hx hb dX6_isAhead_27 (by decide) ?_
      exact hret _ _ _ _ _ _ (by decide) hT hI dX6_isAhead_31
theorem tc_isAhead {p : Program} {l : Launch} {e : Env} {R : Room} {s : State} {m : MethodId} {args : Array Value} {below : List Frame} {meth : Method} {c : Code} {H : Heap} {locs : List Loc} {cells slots : Nat} {Q : State → Prop} {cc : ByteArray} {nL : Nat} {D : va_G} {dA : Nat → ClassId} {ad : Nat → Nat} {τ : Sto} {pc sz : Nat} {ls : Array Slot} {rest : List Value} {H0 : Heap} {x1 : Int32} {x2 : Int32} {x3 : Int32} {K : Int32 → Sto → Prop} (hC : tC p m c cc nL s args D dA ad) (hI : tI D dA ad sz H0 τ H locs) (hT : T_isAhead τ x1 x2 x3 K) (hR : 2 + 1 ≤ R.frames ∧ 8 + (4 + 11) + 37 ≤ R.locals) (hf : cells ≤ R.cells ∧ slots ≤ R.slots) (hsz : ls.size = nL) (hroom : (rest.map fun v => v.category).sum ≤ 8) (hdg : decode cc pc = .ok (.invokevirtual 512, 3)) (kk : ∀ (r : Int32) (τ1 : Sto) (H1 : Heap) (locs1 : List Loc), K r τ1 → tI D dA ad sz H0 τ1 H1 locs1 → W p l e R s m args below meth c H1 locs1 cells slots Q (F0 m (pc + 3) ls (.int r :: rest))) : W p l e R s m args below meth c H locs cells slots Q (F0 m pc ls (.int x3 :: .int x2 :: .int x1 :: .ref (ad 0) :: rest)) :=
  rg_calli (rg_runV hC.1 hC.2.1 hI.1 hI.2.1 tl_0 rfl (met_isAhead l D dA ad hC.2.2 sz τ x1 x2 x3 K hT) (lw_V q2347 q2349 qs125 q170 q2350) 3 (by decide +kernel) ⟨rfl, rfl⟩ hR rfl hsz rfl hroom hf hdg) hI.2.2 (fun r τ1 H1 l1 hk hz hP hS => kk r τ1 H1 l1 hk ⟨hP, hz, hS⟩)
set_option maxHeartbeats 4000000 in
set_option maxRecDepth 100000 in
theorem met_putsAside (l : Launch) (D : va_G) (dA : Nat → ClassId) (ad : Nat → Nat) (hJ : rgJ twL ad) (sz : Nat) (τ : Sto) (K : Sto → Prop) (hT : T_putsAside τ K) : Met l yX6_putsAside (ws_ yX6_putsAside cX6_putsAside 2 (none)) ({ frames := 1, cells := 0, slots := 0, locals := 12 }) (va_Pc [.ref (ad 0)] (rgU D vwCl dA twL ad sz τ)) (va_Qv K (rgU D vwCl dA twL ad sz) (rgAd twL ad)) 0 0 (rgAd twL ad) := by
  refine tw_metv hJ (by decide) rfl (Nat.le_of_ble_eq_true rfl) ?_
  intro p e s m args below meth c Q hC hret hI ls hl
  have hx := hC.1.1
  have hb := hC.1.2.1
  have hl : lv_has ls 2 [(0, .ref (ad 0))] := hl
  have w_7 : ∀ (n : Nat) (x1 : Int32) (τ : Sto) (H : Heap) (locs : List Loc) (ls : Array Slot), T_putsAside_7 K n x1 τ → tI D dA ad sz s.heap τ H locs → lv_has ls 2 [(0, .ref (ad 0)), (1, .int x1)] → W p l e ({ frames := 1, cells := 0, slots := 0, locals := 12 }) s m args below meth c H locs 0 0 Q (F0 m 7 ls []) := by
    intro n
    induction n with
    | zero => intro x1 τ H locs ls hT; exact hT.elim
    | succ n ih =>
      intro x1 τ H locs ls hT hI hl
      unfold T_putsAside_7 at hT
      refine lv_iload_n hx hb dX6_putsAside_7 rfl (lv_at hl 1 rfl) ?_
      refine lv_bipush (v := 41) hx hb dX6_putsAside_8 (by decide) ?_
      refine lv_icmp_ge (tgt := 31) hx hb dX6_putsAside_10 (by decide) (fun hc => ?_) (fun hc => ?_)
      · have hT := hT.1 hc
        refine lv_aload_n hx hb dX6_putsAside_31 rfl (lv_at hl 0 rfl) ?_
        refine lv_iconst (v := 0) hx hb dX6_putsAside_32 (by decide) ?_
        refine tp_58 hC hI hT dX6_putsAside_33 (fun τ1 H locs hT hI => ?_)
        exact hret _ _ _ _ _ hT hI dX6_putsAside_36
      · have hT := hT.2 hc
        refine lv_aload_n hx hb dX6_putsAside_13 rfl (lv_at hl 0 rfl) ?_
        refine tg_52 hC hI dX6_putsAside_14 ?_
        refine lv_iload_n hx hb dX6_putsAside_17 rfl (lv_at hl 1 rfl) ?_
        refine lv_aload_n hx hb dX6_putsAside_18 rfl (lv_at hl 0 rfl) ?_
        refine tg_51 hC hI dX6_putsAside_19 ?_
        refine lv_iload_n hx hb dX6_putsAside_22 rfl (lv_at hl 1 rfl) ?_
        refine tw_iald hC hI tl_52 hT dX6_putsAside_23 (fun hT => ?_)
        refine tw_iast hC hI tl_53 hT dX6_putsAside_24 (fun τ2 H locs hT hI => ?_)
        refine lv_iinc (v := x1 + 1) (lv' := [(1, .int (x1 + 1)), (0, .ref (ad 0))]) hx hb dX6_putsAside_25 hl (k := 1) rfl rfl (Nat.le_of_ble_eq_true rfl) rfl (fun ls hl => ?_)
        refine lv_goto (tgt := 7) hx hb dX6_putsAside_28 (by decide) ?_
        exact ih (x1 + 1) τ2 _ _ _ hT hI (lv_sub hl [1, 0] rfl)
  unfold T_putsAside at hT
  refine lv_aload_n hx hb dX6_putsAside_0 rfl (lv_at hl 0 rfl) ?_
  refine lv_iconst (v := 1) hx hb dX6_putsAside_1 (by decide) ?_
  refine tp_57 hC hI (by decide) hT dX6_putsAside_2 (fun τ3 H locs hT hI => ?_)
  refine lv_iconst (v := 0) hx hb dX6_putsAside_5 (by decide) ?_
  refine lv_istore_n (lv' := [(1, .int 0), (0, .ref (ad 0))]) hx hb dX6_putsAside_6 rfl hl (Nat.le_of_ble_eq_true rfl) rfl (fun ls hl => ?_)
  obtain ⟨n7, hT⟩ := hT
  exact w_7 n7 0 τ3 _ _ _ hT hI (lv_sub hl [1, 0] rfl)
theorem tc_putsAside {p : Program} {l : Launch} {e : Env} {R : Room} {s : State} {m : MethodId} {args : Array Value} {below : List Frame} {meth : Method} {c : Code} {H : Heap} {locs : List Loc} {cells slots : Nat} {Q : State → Prop} {cc : ByteArray} {nL : Nat} {D : va_G} {dA : Nat → ClassId} {ad : Nat → Nat} {τ : Sto} {pc sz : Nat} {ls : Array Slot} {rest : List Value} {H0 : Heap} {K : Sto → Prop} (hC : tC p m c cc nL s args D dA ad) (hI : tI D dA ad sz H0 τ H locs) (hT : T_putsAside τ K) (hR : 1 + 1 ≤ R.frames ∧ 8 + (2 + 11) + 12 ≤ R.locals) (hf : cells ≤ R.cells ∧ slots ≤ R.slots) (hsz : ls.size = nL) (hroom : (rest.map fun v => v.category).sum ≤ 8) (hdg : decode cc pc = .ok (.invokevirtual 515, 3)) (kk : ∀ (τ1 : Sto) (H1 : Heap) (locs1 : List Loc), K τ1 → tI D dA ad sz H0 τ1 H1 locs1 → W p l e R s m args below meth c H1 locs1 cells slots Q (F0 m (pc + 3) ls (rest))) : W p l e R s m args below meth c H locs cells slots Q (F0 m pc ls (.ref (ad 0) :: rest)) :=
  rg_callv (rg_runV hC.1 hC.2.1 hI.1 hI.2.1 tl_0 rfl (met_putsAside l D dA ad hC.2.2 sz τ K hT) (lw_V q2351 q2353 qs126 q170 q2354) 0 (by decide +kernel) ⟨rfl, rfl⟩ hR rfl hsz rfl hroom hf hdg) hI.2.2 (fun τ1 H1 l1 hk hz hP hS => kk τ1 H1 l1 hk ⟨hP, hz, hS⟩)
set_option maxHeartbeats 4000000 in
set_option maxRecDepth 100000 in
theorem met_isBroken (l : Launch) (D : va_G) (dA : Nat → ClassId) (ad : Nat → Nat) (hJ : rgJ twL ad) (sz : Nat) (τ : Sto) (x1 : Int32) (K : Int32 → Sto → Prop) (hT : T_isBroken τ x1 K) : Met l yX6_isBroken (ws_ yX6_isBroken cX6_isBroken 2 (some .boolean)) ({ frames := 2, cells := 0, slots := 0, locals := 33 }) (va_Pc [.ref (ad 0), .int x1] (rgU D vwCl dA twL ad sz τ)) (va_Qi K (rgU D vwCl dA twL ad sz) (rgAd twL ad)) 0 0 (rgAd twL ad) := by
  refine tw_metz hJ (by decide) rfl (Nat.le_of_ble_eq_true rfl) ?_
  intro p e s m args below meth c Q hC hret hI ls hl
  have hx := hC.1.1
  have hb := hC.1.2.1
  have hl : lv_has ls 2 [(0, .ref (ad 0)), (1, .int x1)] := hl
  unfold T_isBroken at hT
  refine lv_aload_n hx hb dX6_isBroken_0 rfl (lv_at hl 0 rfl) ?_
  refine lv_iload_n hx hb dX6_isBroken_1 rfl (lv_at hl 1 rfl) ?_
  refine tc_stateOf hC hI hT ⟨Nat.le_of_ble_eq_true rfl, Nat.le_of_ble_eq_true rfl⟩ ⟨Nat.zero_le _, Nat.zero_le _⟩ hl.1 (Nat.le_of_ble_eq_true rfl) dX6_isBroken_2 (fun r2 τ1 H locs hT hI => ?_)
  refine lv_iconst (v := 1) hx hb dX6_isBroken_5 (by decide) ?_
  refine lv_icmp_ne (tgt := 13) hx hb dX6_isBroken_6 (by decide) (fun hc => ?_) (fun hc => ?_)
  · have hT := hT.1 hc
    refine lv_iconst (v := 0) hx hb dX6_isBroken_13 (by decide) ?_
    exact hret _ _ _ _ _ _ (by decide) hT hI dX6_isBroken_14
  · have hT := hT.2 hc
    refine lv_iconst (v := 1) hx hb dX6_isBroken_9 (by decide) ?_
    refine lv_goto (tgt := 14) hx hb dX6_isBroken_10 (by decide) ?_
    exact hret _ _ _ _ _ _ (by decide) hT hI dX6_isBroken_14
theorem tc_isBroken {p : Program} {l : Launch} {e : Env} {R : Room} {s : State} {m : MethodId} {args : Array Value} {below : List Frame} {meth : Method} {c : Code} {H : Heap} {locs : List Loc} {cells slots : Nat} {Q : State → Prop} {cc : ByteArray} {nL : Nat} {D : va_G} {dA : Nat → ClassId} {ad : Nat → Nat} {τ : Sto} {pc sz : Nat} {ls : Array Slot} {rest : List Value} {H0 : Heap} {x1 : Int32} {K : Int32 → Sto → Prop} (hC : tC p m c cc nL s args D dA ad) (hI : tI D dA ad sz H0 τ H locs) (hT : T_isBroken τ x1 K) (hR : 2 + 1 ≤ R.frames ∧ 8 + (2 + 11) + 33 ≤ R.locals) (hf : cells ≤ R.cells ∧ slots ≤ R.slots) (hsz : ls.size = nL) (hroom : (rest.map fun v => v.category).sum ≤ 8) (hdg : decode cc pc = .ok (.invokevirtual 448, 3)) (kk : ∀ (r : Int32) (τ1 : Sto) (H1 : Heap) (locs1 : List Loc), K r τ1 → tI D dA ad sz H0 τ1 H1 locs1 → W p l e R s m args below meth c H1 locs1 cells slots Q (F0 m (pc + 3) ls (.int r :: rest))) : W p l e R s m args below meth c H locs cells slots Q (F0 m pc ls (.int x1 :: .ref (ad 0) :: rest)) :=
  rg_calli (rg_runV hC.1 hC.2.1 hI.1 hI.2.1 tl_0 rfl (met_isBroken l D dA ad hC.2.2 sz τ x1 K hT) (lw_V q2363 q2365 qs129 q170 q2366) 1 (by decide +kernel) ⟨rfl, rfl⟩ hR rfl hsz rfl hroom hf hdg) hI.2.2 (fun r τ1 H1 l1 hk hz hP hS => kk r τ1 H1 l1 hk ⟨hP, hz, hS⟩)
set_option maxHeartbeats 4000000 in
set_option maxRecDepth 100000 in
theorem met_isKept (l : Launch) (D : va_G) (dA : Nat → ClassId) (ad : Nat → Nat) (hJ : rgJ twL ad) (sz : Nat) (τ : Sto) (x1 : Int32) (x2 : Int32) (K : Sto → Prop) (hT : T_isKept τ x1 x2 K) : Met l yX6_isKept (ws_ yX6_isKept cX6_isKept 4 (none)) ({ frames := 1, cells := 0, slots := 0, locals := 12 }) (va_Pc [.ref (ad 0), .int x1, .int x2] (rgU D vwCl dA twL ad sz τ)) (va_Qv K (rgU D vwCl dA twL ad sz) (rgAd twL ad)) 0 0 (rgAd twL ad) := by
  refine tw_metv hJ (by decide) rfl (Nat.le_of_ble_eq_true rfl) ?_
  intro p e s m args below meth c Q hC hret hI ls hl
  have hx := hC.1.1
  have hb := hC.1.2.1
  have hl : lv_has ls 4 [(0, .ref (ad 0)), (1, .int x1), (2, .int x2)] := hl
  have w_64 : ∀ (x1 : Int32) (x2 : Int32) (τ : Sto) (H : Heap) (locs : List Loc) (ls : Array Slot), T_isKept_64 K x1 x2 τ → tI D dA ad sz s.heap τ H locs → lv_has ls 4 [(0, .ref (ad 0)), (1, .int x1), (2, .int x2)] → W p l e ({ frames := 1, cells := 0, slots := 0, locals := 12 }) s m args below meth c H locs 0 0 Q (F0 m 64 ls []) := by
    intro x1 x2 τ H locs ls hT hI hl
    unfold T_isKept_64 at hT
    refine lv_bipush (v := 42) hx hb dX6_isKept_64 (by decide) ?_
    refine lv_iconst (v := 3) hx hb dX6_isKept_66 (by decide) ?_
    refine lv_aload_n hx hb dX6_isKept_67 rfl (lv_at hl 0 rfl) ?_
    refine tg_51 hC hI dX6_isKept_68 ?_
    refine lv_bipush (v := 41) hx hb dX6_isKept_71 (by decide) ?_
    refine tw_iald hC hI tl_52 hT dX6_isKept_73 (fun hT => ?_)
    refine lv_imul hx hb dX6_isKept_74 ?_
    refine lv_iadd hx hb dX6_isKept_75 ?_
    refine lv_iconst (v := 3) hx hb dX6_isKept_76 (by decide) ?_
    refine lv_isub hx hb dX6_isKept_77 ?_
    refine lv_topi (fun y1 h2 => ?_)
    have hT := hT y1 h2
    refine lv_istore_n (lv' := [(3, .int y1), (0, .ref (ad 0)), (1, .int x1), (2, .int x2)]) hx hb dX6_isKept_78 rfl hl (Nat.le_of_ble_eq_true rfl) rfl (fun ls hl => ?_)
    refine lv_aload_n hx hb dX6_isKept_79 rfl (lv_at hl 1 rfl) ?_
    refine tg_51 hC hI dX6_isKept_80 ?_
    refine lv_iload_n hx hb dX6_isKept_83 rfl (lv_at hl 0 rfl) ?_
    refine lv_aload_n hx hb dX6_isKept_84 rfl (lv_at hl 1 rfl) ?_
    refine tg_51 hC hI dX6_isKept_85 ?_
    refine lv_iconst (v := 0) hx hb dX6_isKept_88 (by decide) ?_
    refine tw_iald hC hI tl_52 hT dX6_isKept_89 (fun hT => ?_)
    refine tw_iast hC hI tl_52 hT dX6_isKept_90 (fun τ3 H locs hT hI => ?_)
    refine lv_aload_n hx hb dX6_isKept_91 rfl (lv_at hl 1 rfl) ?_
    refine tg_51 hC hI dX6_isKept_92 ?_
    refine lv_iload_n hx hb dX6_isKept_95 rfl (lv_at hl 0 rfl) ?_
    refine lv_iconst (v := 1) hx hb dX6_isKept_96 (by decide) ?_
    refine lv_iadd hx hb dX6_isKept_97 ?_
    refine lv_iload_n hx hb dX6_isKept_98 rfl (lv_at hl 2 rfl) ?_
    refine tw_iast hC hI tl_52 hT dX6_isKept_99 (fun τ4 H locs hT hI => ?_)
    refine lv_aload_n hx hb dX6_isKept_100 rfl (lv_at hl 1 rfl) ?_
    refine tg_51 hC hI dX6_isKept_101 ?_
    refine lv_iload_n hx hb dX6_isKept_104 rfl (lv_at hl 0 rfl) ?_
    refine lv_iconst (v := 2) hx hb dX6_isKept_105 (by decide) ?_
    refine lv_iadd hx hb dX6_isKept_106 ?_
    refine lv_iload_n hx hb dX6_isKept_107 rfl (lv_at hl 3 rfl) ?_
    refine tw_iast hC hI tl_52 hT dX6_isKept_108 (fun τ5 H locs hT hI => ?_)
    exact hret _ _ _ _ _ hT hI dX6_isKept_109
  have w_23 : ∀ (x1 : Int32) (x2 : Int32) (n : Nat) (x3 : Int32) (τ : Sto) (H : Heap) (locs : List Loc) (ls : Array Slot), T_isKept_23 K x1 x2 n x3 τ → tI D dA ad sz s.heap τ H locs → lv_has ls 4 [(0, .ref (ad 0)), (1, .int x1), (2, .int x2), (3, .int x3)] → W p l e ({ frames := 1, cells := 0, slots := 0, locals := 12 }) s m args below meth c H locs 0 0 Q (F0 m 23 ls []) := by
    intro x1 x2 n
    induction n with
    | zero => intro x3 τ H locs ls hT; exact hT.elim
    | succ n ih =>
      intro x3 τ H locs ls hT hI hl
      unfold T_isKept_23 at hT
      refine lv_iload_n hx hb dX6_isKept_23 rfl (lv_at hl 3 rfl) ?_
      refine lv_sipush (v := 189) hx hb dX6_isKept_24 (by decide) ?_
      refine lv_icmp_ge (tgt := 50) hx hb dX6_isKept_27 (by decide) (fun hc => ?_) (fun hc => ?_)
      · have hT := hT.1 hc
        refine lv_goto (tgt := 64) hx hb dX6_isKept_50 (by decide) ?_
        exact w_64 x1 x2 τ _ _ _ hT hI (lv_sub hl [0, 1, 2] rfl)
      · have hT := hT.2 hc
        refine lv_aload_n hx hb dX6_isKept_30 rfl (lv_at hl 0 rfl) ?_
        refine tg_51 hC hI dX6_isKept_31 ?_
        refine lv_iload_n hx hb dX6_isKept_34 rfl (lv_at hl 3 rfl) ?_
        refine lv_aload_n hx hb dX6_isKept_35 rfl (lv_at hl 0 rfl) ?_
        refine tg_51 hC hI dX6_isKept_36 ?_
        refine lv_iload_n hx hb dX6_isKept_39 rfl (lv_at hl 3 rfl) ?_
        refine lv_iconst (v := 3) hx hb dX6_isKept_40 (by decide) ?_
        refine lv_iadd hx hb dX6_isKept_41 ?_
        refine tw_iald hC hI tl_52 hT dX6_isKept_42 (fun hT => ?_)
        refine tw_iast hC hI tl_52 hT dX6_isKept_43 (fun τ6 H locs hT hI => ?_)
        refine lv_iinc (v := x3 + 1) (lv' := [(3, .int (x3 + 1)), (0, .ref (ad 0)), (1, .int x1), (2, .int x2)]) hx hb dX6_isKept_44 hl (k := 3) rfl rfl (Nat.le_of_ble_eq_true rfl) rfl (fun ls hl => ?_)
        refine lv_goto (tgt := 23) hx hb dX6_isKept_47 (by decide) ?_
        exact ih (x3 + 1) τ6 _ _ _ hT hI (lv_sub hl [1, 2, 3, 0] rfl)
  unfold T_isKept at hT
  refine lv_aload_n hx hb dX6_isKept_0 rfl (lv_at hl 0 rfl) ?_
  refine tg_57 hC hI dX6_isKept_1 ?_
  refine lv_if_eq (tgt := 8) hx hb dX6_isKept_4 (by decide) (fun hc => ?_) (fun hc => ?_)
  · have hT := hT.1 hc
    refine lv_aload_n hx hb dX6_isKept_8 rfl (lv_at hl 0 rfl) ?_
    refine tg_51 hC hI dX6_isKept_9 ?_
    refine lv_bipush (v := 41) hx hb dX6_isKept_12 (by decide) ?_
    refine tw_iald hC hI tl_52 hT dX6_isKept_14 (fun hT => ?_)
    refine lv_bipush (v := 50) hx hb dX6_isKept_15 (by decide) ?_
    refine lv_icmp_ne (tgt := 53) hx hb dX6_isKept_17 (by decide) (fun hc => ?_) (fun hc => ?_)
    · have hT := hT.1 hc
      refine lv_aload_n hx hb dX6_isKept_53 rfl (lv_at hl 0 rfl) ?_
      refine tg_51 hC hI dX6_isKept_54 ?_
      refine lv_bipush (v := 41) hx hb dX6_isKept_57 (by decide) ?_
      refine lv_dup2_11 hx hb dX6_isKept_59 rfl rfl ?_
      refine tw_iald hC hI tl_52 hT dX6_isKept_60 (fun hT => ?_)
      refine lv_iconst (v := 1) hx hb dX6_isKept_61 (by decide) ?_
      refine lv_iadd hx hb dX6_isKept_62 ?_
      refine tw_iast hC hI tl_52 hT dX6_isKept_63 (fun τ7 H locs hT hI => ?_)
      exact w_64 x1 x2 τ7 _ _ _ hT hI (lv_sub hl [0, 1, 2] rfl)
    · have hT := hT.2 hc
      refine lv_bipush (v := 42) hx hb dX6_isKept_20 (by decide) ?_
      refine lv_istore_n (lv' := [(3, .int 42), (0, .ref (ad 0)), (1, .int x1), (2, .int x2)]) hx hb dX6_isKept_22 rfl hl (Nat.le_of_ble_eq_true rfl) rfl (fun ls hl => ?_)
      obtain ⟨n23, hT⟩ := hT
      exact w_23 x1 x2 n23 42 τ _ _ _ hT hI (lv_sub hl [1, 2, 3, 0] rfl)
  · have hT := hT.2 hc
    exact hret _ _ _ _ _ hT hI dX6_isKept_7
theorem tc_isKept {p : Program} {l : Launch} {e : Env} {R : Room} {s : State} {m : MethodId} {args : Array Value} {below : List Frame} {meth : Method} {c : Code} {H : Heap} {locs : List Loc} {cells slots : Nat} {Q : State → Prop} {cc : ByteArray} {nL : Nat} {D : va_G} {dA : Nat → ClassId} {ad : Nat → Nat} {τ : Sto} {pc sz : Nat} {ls : Array Slot} {rest : List Value} {H0 : Heap} {x1 : Int32} {x2 : Int32} {K : Sto → Prop} (hC : tC p m c cc nL s args D dA ad) (hI : tI D dA ad sz H0 τ H locs) (hT : T_isKept τ x1 x2 K) (hR : 1 + 1 ≤ R.frames ∧ 8 + (4 + 11) + 12 ≤ R.locals) (hf : cells ≤ R.cells ∧ slots ≤ R.slots) (hsz : ls.size = nL) (hroom : (rest.map fun v => v.category).sum ≤ 8) (hdg : decode cc pc = .ok (.invokevirtual 439, 3)) (kk : ∀ (τ1 : Sto) (H1 : Heap) (locs1 : List Loc), K τ1 → tI D dA ad sz H0 τ1 H1 locs1 → W p l e R s m args below meth c H1 locs1 cells slots Q (F0 m (pc + 3) ls (rest))) : W p l e R s m args below meth c H locs cells slots Q (F0 m pc ls (.int x2 :: .int x1 :: .ref (ad 0) :: rest)) :=
  rg_callv (rg_runV hC.1 hC.2.1 hI.1 hI.2.1 tl_0 rfl (met_isKept l D dA ad hC.2.2 sz τ x1 x2 K hT) (lw_V q2371 q2373 qs131 q170 q2374) 2 (by decide +kernel) ⟨rfl, rfl⟩ hR rfl hsz rfl hroom hf hdg) hI.2.2 (fun τ1 H1 l1 hk hz hP hS => kk τ1 H1 l1 hk ⟨hP, hz, hS⟩)
set_option maxHeartbeats 4000000 in
set_option maxRecDepth 100000 in
theorem met_isBreaking (l : Launch) (D : va_G) (dA : Nat → ClassId) (ad : Nat → Nat) (hJ : rgJ twL ad) (sz : Nat) (τ : Sto) (x1 : Int32) (K : Sto → Prop) (hT : T_isBreaking τ x1 K) : Met l yX6_isBreaking (ws_ yX6_isBreaking cX6_isBreaking 2 (none)) ({ frames := 2, cells := 0, slots := 0, locals := 35 }) (va_Pc [.ref (ad 0), .int x1] (rgU D vwCl dA twL ad sz τ)) (va_Qv K (rgU D vwCl dA twL ad sz) (rgAd twL ad)) 0 0 (rgAd twL ad) := by
  refine tw_metv hJ (by decide) rfl (Nat.le_of_ble_eq_true rfl) ?_
  intro p e s m args below meth c Q hC hret hI ls hl
  have hx := hC.1.1
  have hb := hC.1.2.1
  have hl : lv_has ls 2 [(0, .ref (ad 0)), (1, .int x1)] := hl
  have w_40 : ∀ (x1 : Int32) (τ : Sto) (H : Heap) (locs : List Loc) (ls : Array Slot), T_isBreaking_40 K x1 τ → tI D dA ad sz s.heap τ H locs → lv_has ls 2 [(0, .ref (ad 0)), (1, .int x1)] → W p l e ({ frames := 2, cells := 0, slots := 0, locals := 35 }) s m args below meth c H locs 0 0 Q (F0 m 40 ls []) := by
    intro x1 τ H locs ls hT hI hl
    unfold T_isBreaking_40 at hT
    refine lv_aload_n hx hb dX6_isBreaking_40 rfl (lv_at hl 0 rfl) ?_
    refine tg_51 hC hI dX6_isBreaking_41 ?_
    refine lv_iconst (v := 5) hx hb dX6_isBreaking_44 (by decide) ?_
    refine lv_iconst (v := 5) hx hb dX6_isBreaking_45 (by decide) ?_
    refine lv_iload_n hx hb dX6_isBreaking_46 rfl (lv_at hl 1 rfl) ?_
    refine lv_imul hx hb dX6_isBreaking_47 ?_
    refine lv_iadd hx hb dX6_isBreaking_48 ?_
    refine lv_iconst (v := 0) hx hb dX6_isBreaking_49 (by decide) ?_
    refine tw_iast hC hI tl_52 hT dX6_isBreaking_50 (fun τ1 H locs hT hI => ?_)
    refine lv_aload_n hx hb dX6_isBreaking_51 rfl (lv_at hl 0 rfl) ?_
    refine lv_dup hx hb dX6_isBreaking_52 rfl ?_
    refine tg_58 hC hI dX6_isBreaking_53 ?_
    refine lv_iconst (v := 1) hx hb dX6_isBreaking_56 (by decide) ?_
    refine lv_iadd hx hb dX6_isBreaking_57 ?_
    refine tp_58 hC hI hT dX6_isBreaking_58 (fun τ2 H locs hT hI => ?_)
    refine lv_aload_n hx hb dX6_isBreaking_61 rfl (lv_at hl 0 rfl) ?_
    refine lv_iload_n hx hb dX6_isBreaking_62 rfl (lv_at hl 1 rfl) ?_
    refine lv_iconst (v := 0) hx hb dX6_isBreaking_63 (by decide) ?_
    refine tc_isKept hC hI hT ⟨Nat.le_of_ble_eq_true rfl, Nat.le_of_ble_eq_true rfl⟩ ⟨Nat.zero_le _, Nat.zero_le _⟩ hl.1 (Nat.le_of_ble_eq_true rfl) dX6_isBreaking_64 (fun τ3 H locs hT hI => ?_)
    exact hret _ _ _ _ _ hT hI dX6_isBreaking_67
  unfold T_isBreaking at hT
  refine lv_aload_n hx hb dX6_isBreaking_0 rfl (lv_at hl 0 rfl) ?_
  refine tg_51 hC hI dX6_isBreaking_1 ?_
  refine lv_iconst (v := 1) hx hb dX6_isBreaking_4 (by decide) ?_
  refine lv_iconst (v := 5) hx hb dX6_isBreaking_5 (by decide) ?_
  refine lv_iload_n hx hb dX6_isBreaking_6 rfl (lv_at hl 1 rfl) ?_
  refine lv_imul hx hb dX6_isBreaking_7 ?_
  refine lv_iadd hx hb dX6_isBreaking_8 ?_
  refine lv_iconst (v := 1) hx hb dX6_isBreaking_9 (by decide) ?_
  refine tw_iast hC hI tl_52 hT dX6_isBreaking_10 (fun τ4 H locs hT hI => ?_)
  refine lv_aload_n hx hb dX6_isBreaking_11 rfl (lv_at hl 0 rfl) ?_
  refine tg_51 hC hI dX6_isBreaking_12 ?_
  refine lv_iconst (v := 2) hx hb dX6_isBreaking_15 (by decide) ?_
  refine lv_iconst (v := 5) hx hb dX6_isBreaking_16 (by decide) ?_
  refine lv_iload_n hx hb dX6_isBreaking_17 rfl (lv_at hl 1 rfl) ?_
  refine lv_imul hx hb dX6_isBreaking_18 ?_
  refine lv_iadd hx hb dX6_isBreaking_19 ?_
  refine tw_iald hC hI tl_52 hT dX6_isBreaking_20 (fun hT => ?_)
  refine lv_bipush (v := 99) hx hb dX6_isBreaking_21 (by decide) ?_
  refine lv_icmp_ge (tgt := 40) hx hb dX6_isBreaking_23 (by decide) (fun hc => ?_) (fun hc => ?_)
  · have hT := hT.1 hc
    exact w_40 x1 τ4 _ _ _ hT hI (lv_sub hl [0, 1] rfl)
  · have hT := hT.2 hc
    refine lv_aload_n hx hb dX6_isBreaking_26 rfl (lv_at hl 0 rfl) ?_
    refine tg_51 hC hI dX6_isBreaking_27 ?_
    refine lv_iconst (v := 2) hx hb dX6_isBreaking_30 (by decide) ?_
    refine lv_iconst (v := 5) hx hb dX6_isBreaking_31 (by decide) ?_
    refine lv_iload_n hx hb dX6_isBreaking_32 rfl (lv_at hl 1 rfl) ?_
    refine lv_imul hx hb dX6_isBreaking_33 ?_
    refine lv_iadd hx hb dX6_isBreaking_34 ?_
    refine lv_dup2_11 hx hb dX6_isBreaking_35 rfl rfl ?_
    refine tw_iald hC hI tl_52 hT dX6_isBreaking_36 (fun hT => ?_)
    refine lv_iconst (v := 1) hx hb dX6_isBreaking_37 (by decide) ?_
    refine lv_iadd hx hb dX6_isBreaking_38 ?_
    refine tw_iast hC hI tl_52 hT dX6_isBreaking_39 (fun τ5 H locs hT hI => ?_)
    exact w_40 x1 τ5 _ _ _ hT hI (lv_sub hl [0, 1] rfl)
theorem tc_isBreaking {p : Program} {l : Launch} {e : Env} {R : Room} {s : State} {m : MethodId} {args : Array Value} {below : List Frame} {meth : Method} {c : Code} {H : Heap} {locs : List Loc} {cells slots : Nat} {Q : State → Prop} {cc : ByteArray} {nL : Nat} {D : va_G} {dA : Nat → ClassId} {ad : Nat → Nat} {τ : Sto} {pc sz : Nat} {ls : Array Slot} {rest : List Value} {H0 : Heap} {x1 : Int32} {K : Sto → Prop} (hC : tC p m c cc nL s args D dA ad) (hI : tI D dA ad sz H0 τ H locs) (hT : T_isBreaking τ x1 K) (hR : 2 + 1 ≤ R.frames ∧ 8 + (2 + 11) + 35 ≤ R.locals) (hf : cells ≤ R.cells ∧ slots ≤ R.slots) (hsz : ls.size = nL) (hroom : (rest.map fun v => v.category).sum ≤ 8) (hdg : decode cc pc = .ok (.invokevirtual 461, 3)) (kk : ∀ (τ1 : Sto) (H1 : Heap) (locs1 : List Loc), K τ1 → tI D dA ad sz H0 τ1 H1 locs1 → W p l e R s m args below meth c H1 locs1 cells slots Q (F0 m (pc + 3) ls (rest))) : W p l e R s m args below meth c H locs cells slots Q (F0 m pc ls (.int x1 :: .ref (ad 0) :: rest)) :=
  rg_callv (rg_runV hC.1 hC.2.1 hI.1 hI.2.1 tl_0 rfl (met_isBreaking l D dA ad hC.2.2 sz τ x1 K hT) (lw_V q2367 q2369 qs130 q170 q2370) 1 (by decide +kernel) ⟨rfl, rfl⟩ hR rfl hsz rfl hroom hf hdg) hI.2.2 (fun τ1 H1 l1 hk hz hP hS => kk τ1 H1 l1 hk ⟨hP, hz, hS⟩)
set_option maxHeartbeats 4000000 in
set_option maxRecDepth 100000 in
theorem met_menderFor (l : Launch) (D : va_G) (dA : Nat → ClassId) (ad : Nat → Nat) (hJ : rgJ twL ad) (sz : Nat) (τ : Sto) (x1 : Int32) (K : Int32 → Sto → Prop) (hT : T_menderFor τ x1 K) : Met l yX6_menderFor (ws_ yX6_menderFor cX6_menderFor 3 (some .int)) ({ frames := 5, cells := 0, slots := 0, locals := 110 }) (va_Pc [.ref (ad 0), .int x1] (rgU D vwCl dA twL ad sz τ)) (va_Qi K (rgU D vwCl dA twL ad sz) (rgAd twL ad)) 0 0 (rgAd twL ad) := by
  refine tw_meti hJ (by decide) rfl (Nat.le_of_ble_eq_true rfl) ?_
  intro p e s m args below meth c Q hC hret hI ls hl
  have hx := hC.1.1
  have hb := hC.1.2.1
  have hl : lv_has ls 3 [(0, .ref (ad 0)), (1, .int x1)] := hl
  have w_2 : ∀ (x1 : Int32) (n : Nat) (x2 : Int32) (τ : Sto) (H : Heap) (locs : List Loc) (ls : Array Slot), T_menderFor_2 K x1 n x2 τ → tI D dA ad sz s.heap τ H locs → lv_has ls 3 [(0, .ref (ad 0)), (1, .int x1), (2, .int x2)] → W p l e ({ frames := 5, cells := 0, slots := 0, locals := 110 }) s m args below meth c H locs 0 0 Q (F0 m 2 ls []) := by
    intro x1 n
    induction n with
    | zero => intro x2 τ H locs ls hT; exact hT.elim
    | succ n ih =>
      intro x2 τ H locs ls hT hI hl
      unfold T_menderFor_2 at hT
      refine lv_iload_n hx hb dX6_menderFor_2 rfl (lv_at hl 2 rfl) ?_
      refine lv_aload_n hx hb dX6_menderFor_3 rfl (lv_at hl 0 rfl) ?_
      refine tc_menderMany hC hI hT ⟨Nat.le_of_ble_eq_true rfl, Nat.le_of_ble_eq_true rfl⟩ ⟨Nat.zero_le _, Nat.zero_le _⟩ hl.1 (Nat.le_of_ble_eq_true rfl) dX6_menderFor_4 (fun r2 τ1 H locs hT hI => ?_)
      refine lv_icmp_ge (tgt := 33) hx hb dX6_menderFor_7 (by decide) (fun hc => ?_) (fun hc => ?_)
      · have hT := hT.1 hc
        refine lv_iconst (v := -1) hx hb dX6_menderFor_33 (by decide) ?_
        exact hret _ _ _ _ _ _ hT hI dX6_menderFor_34
      · have hT := hT.2 hc
        refine lv_aload_n hx hb dX6_menderFor_10 rfl (lv_at hl 0 rfl) ?_
        refine lv_iload_n hx hb dX6_menderFor_11 rfl (lv_at hl 1 rfl) ?_
        refine lv_iload_n hx hb dX6_menderFor_12 rfl (lv_at hl 2 rfl) ?_
        refine tc_hoursOf hC hI hT ⟨Nat.le_of_ble_eq_true rfl, Nat.le_of_ble_eq_true rfl⟩ ⟨Nat.zero_le _, Nat.zero_le _⟩ hl.1 (Nat.le_of_ble_eq_true rfl) dX6_menderFor_13 (fun r4 τ3 H locs hT hI => ?_)
        refine lv_aload_n hx hb dX6_menderFor_16 rfl (lv_at hl 0 rfl) ?_
        refine tg_60 hC hI dX6_menderFor_17 ?_
        refine lv_iload_n hx hb dX6_menderFor_20 rfl (lv_at hl 2 rfl) ?_
        refine tw_iald hC hI tl_61 hT dX6_menderFor_21 (fun hT => ?_)
        refine lv_icmp_gt (tgt := 27) hx hb dX6_menderFor_22 (by decide) (fun hc => ?_) (fun hc => ?_)
        · have hT := hT.1 hc
          refine lv_iinc (v := x2 + 1) (lv' := [(2, .int (x2 + 1)), (0, .ref (ad 0)), (1, .int x1)]) hx hb dX6_menderFor_27 hl (k := 2) rfl rfl (Nat.le_of_ble_eq_true rfl) rfl (fun ls hl => ?_)
          refine lv_goto (tgt := 2) hx hb dX6_menderFor_30 (by decide) ?_
          exact ih (x2 + 1) τ3 _ _ _ hT hI (lv_sub hl [1, 2, 0] rfl)
        · have hT := hT.2 hc
          refine lv_iload_n hx hb dX6_menderFor_25 rfl (lv_at hl 2 rfl) ?_
          exact hret _ _ _ _ _ _ hT hI dX6_menderFor_26
  unfold T_menderFor at hT
  refine lv_iconst (v := 0) hx hb dX6_menderFor_0 (by decide) ?_
  refine lv_istore_n (lv' := [(2, .int 0), (0, .ref (ad 0)), (1, .int x1)]) hx hb dX6_menderFor_1 rfl hl (Nat.le_of_ble_eq_true rfl) rfl (fun ls hl => ?_)
  obtain ⟨n2, hT⟩ := hT
  exact w_2 x1 n2 0 τ _ _ _ hT hI (lv_sub hl [1, 2, 0] rfl)
theorem tc_menderFor {p : Program} {l : Launch} {e : Env} {R : Room} {s : State} {m : MethodId} {args : Array Value} {below : List Frame} {meth : Method} {c : Code} {H : Heap} {locs : List Loc} {cells slots : Nat} {Q : State → Prop} {cc : ByteArray} {nL : Nat} {D : va_G} {dA : Nat → ClassId} {ad : Nat → Nat} {τ : Sto} {pc sz : Nat} {ls : Array Slot} {rest : List Value} {H0 : Heap} {x1 : Int32} {K : Int32 → Sto → Prop} (hC : tC p m c cc nL s args D dA ad) (hI : tI D dA ad sz H0 τ H locs) (hT : T_menderFor τ x1 K) (hR : 5 + 1 ≤ R.frames ∧ 8 + (3 + 11) + 110 ≤ R.locals) (hf : cells ≤ R.cells ∧ slots ≤ R.slots) (hsz : ls.size = nL) (hroom : (rest.map fun v => v.category).sum ≤ 8) (hdg : decode cc pc = .ok (.invokevirtual 451, 3)) (kk : ∀ (r : Int32) (τ1 : Sto) (H1 : Heap) (locs1 : List Loc), K r τ1 → tI D dA ad sz H0 τ1 H1 locs1 → W p l e R s m args below meth c H1 locs1 cells slots Q (F0 m (pc + 3) ls (.int r :: rest))) : W p l e R s m args below meth c H locs cells slots Q (F0 m pc ls (.int x1 :: .ref (ad 0) :: rest)) :=
  rg_calli (rg_runV hC.1 hC.2.1 hI.1 hI.2.1 tl_0 rfl (met_menderFor l D dA ad hC.2.2 sz τ x1 K hT) (lw_V q2379 q2381 qs133 q170 q2382) 1 (by decide +kernel) ⟨rfl, rfl⟩ hR rfl hsz rfl hroom hf hdg) hI.2.2 (fun r τ1 H1 l1 hk hz hP hS => kk r τ1 H1 l1 hk ⟨hP, hz, hS⟩)
set_option maxHeartbeats 4000000 in
set_option maxRecDepth 100000 in
theorem met_firstOf (l : Launch) (D : va_G) (dA : Nat → ClassId) (ad : Nat → Nat) (hJ : rgJ twL ad) (sz : Nat) (τ : Sto) (x1 : Int32) (K : Int64 → Sto → Prop) (hT : T_firstOf τ x1 K) : Met l yX6_firstOf (ws_ yX6_firstOf cX6_firstOf 2 (some .long)) ({ frames := 4, cells := 0, slots := 0, locals := 86 }) (va_Pc [.ref (ad 0), .int x1] (rgU D vwCl dA twL ad sz τ)) (va_Ql K (rgU D vwCl dA twL ad sz) (rgAd twL ad)) 0 0 (rgAd twL ad) := by
  refine tw_metl hJ (by decide) rfl (Nat.le_of_ble_eq_true rfl) ?_
  intro p e s m args below meth c Q hC hret hI ls hl
  have hx := hC.1.1
  have hb := hC.1.2.1
  have hl : lv_has ls 2 [(0, .ref (ad 0)), (1, .int x1)] := hl
  unfold T_firstOf at hT
  refine lv_aload_n hx hb dX6_firstOf_0 rfl (lv_at hl 0 rfl) ?_
  refine lv_iconst (v := 4) hx hb dX6_firstOf_1 (by decide) ?_
  refine tc_isTold hC hI hT ⟨Nat.le_of_ble_eq_true rfl, Nat.le_of_ble_eq_true rfl⟩ ⟨Nat.zero_le _, Nat.zero_le _⟩ hl.1 (Nat.le_of_ble_eq_true rfl) dX6_firstOf_2 (fun r2 τ1 H locs hT hI => ?_)
  refine lv_if_eq (tgt := 17) hx hb dX6_firstOf_5 (by decide) (fun hc => ?_) (fun hc => ?_)
  · have hT := hT.1 hc
    refine lv_aload_n hx hb dX6_firstOf_17 rfl (lv_at hl 0 rfl) ?_
    refine lv_iload_n hx hb dX6_firstOf_18 rfl (lv_at hl 1 rfl) ?_
    refine tc_useOf hC hI hT ⟨Nat.le_of_ble_eq_true rfl, Nat.le_of_ble_eq_true rfl⟩ ⟨Nat.zero_le _, Nat.zero_le _⟩ hl.1 (Nat.le_of_ble_eq_true rfl) dX6_firstOf_19 (fun r4 τ3 H locs hT hI => ?_)
    refine lv_i2l hx hb dX6_firstOf_22 rfl ?_
    exact hret _ _ _ _ _ _ hT hI dX6_firstOf_23
  · have hT := hT.2 hc
    refine lv_aload_n hx hb dX6_firstOf_8 rfl (lv_at hl 0 rfl) ?_
    refine lv_iconst (v := 4) hx hb dX6_firstOf_9 (by decide) ?_
    refine lv_iload_n hx hb dX6_firstOf_10 rfl (lv_at hl 1 rfl) ?_
    refine tc_codesTell hC hI hT ⟨Nat.le_of_ble_eq_true rfl, Nat.le_of_ble_eq_true rfl⟩ ⟨Nat.zero_le _, Nat.zero_le _⟩ hl.1 (Nat.le_of_ble_eq_true rfl) dX6_firstOf_11 (fun r6 τ5 H locs hT hI => ?_)
    refine lv_goto (tgt := 23) hx hb dX6_firstOf_14 (by decide) ?_
    exact hret _ _ _ _ _ _ hT hI dX6_firstOf_23
theorem tc_firstOf {p : Program} {l : Launch} {e : Env} {R : Room} {s : State} {m : MethodId} {args : Array Value} {below : List Frame} {meth : Method} {c : Code} {H : Heap} {locs : List Loc} {cells slots : Nat} {Q : State → Prop} {cc : ByteArray} {nL : Nat} {D : va_G} {dA : Nat → ClassId} {ad : Nat → Nat} {τ : Sto} {pc sz : Nat} {ls : Array Slot} {rest : List Value} {H0 : Heap} {x1 : Int32} {K : Int64 → Sto → Prop} (hC : tC p m c cc nL s args D dA ad) (hI : tI D dA ad sz H0 τ H locs) (hT : T_firstOf τ x1 K) (hR : 4 + 1 ≤ R.frames ∧ 8 + (2 + 11) + 86 ≤ R.locals) (hf : cells ≤ R.cells ∧ slots ≤ R.slots) (hsz : ls.size = nL) (hroom : (rest.map fun v => v.category).sum ≤ 8) (hdg : decode cc pc = .ok (.invokevirtual 454, 3)) (kk : ∀ (r : Int64) (τ1 : Sto) (H1 : Heap) (locs1 : List Loc), K r τ1 → tI D dA ad sz H0 τ1 H1 locs1 → W p l e R s m args below meth c H1 locs1 cells slots Q (F0 m (pc + 3) ls (.long r :: rest))) : W p l e R s m args below meth c H locs cells slots Q (F0 m pc ls (.int x1 :: .ref (ad 0) :: rest)) :=
  rg_calll (rg_runV hC.1 hC.2.1 hI.1 hI.2.1 tl_0 rfl (met_firstOf l D dA ad hC.2.2 sz τ x1 K hT) (lw_V q2383 q2385 qs134 q170 q2386) 1 (by decide +kernel) ⟨rfl, rfl⟩ hR rfl hsz rfl hroom hf hdg) hI.2.2 (fun r τ1 H1 l1 hk hz hP hS => kk r τ1 H1 l1 hk ⟨hP, hz, hS⟩)
set_option maxHeartbeats 4000000 in
set_option maxRecDepth 100000 in
theorem met_isMending (l : Launch) (D : va_G) (dA : Nat → ClassId) (ad : Nat → Nat) (hJ : rgJ twL ad) (sz : Nat) (τ : Sto) (x1 : Int32) (x2 : Int32) (K : Sto → Prop) (hT : T_isMending τ x1 x2 K) : Met l yX6_isMending (ws_ yX6_isMending cX6_isMending 4 (none)) ({ frames := 5, cells := 0, slots := 0, locals := 110 }) (va_Pc [.ref (ad 0), .int x1, .int x2] (rgU D vwCl dA twL ad sz τ)) (va_Qv K (rgU D vwCl dA twL ad sz) (rgAd twL ad)) 0 0 (rgAd twL ad) := by
  refine tw_metv hJ (by decide) rfl (Nat.le_of_ble_eq_true rfl) ?_
  intro p e s m args below meth c Q hC hret hI ls hl
  have hx := hC.1.1
  have hb := hC.1.2.1
  have hl : lv_has ls 4 [(0, .ref (ad 0)), (1, .int x1), (2, .int x2)] := hl
  have w_47 : ∀ (x1 : Int32) (x2 : Int32) (x3 : Int32) (τ : Sto) (H : Heap) (locs : List Loc) (ls : Array Slot), T_isMending_47 K x1 x2 x3 τ → tI D dA ad sz s.heap τ H locs → lv_has ls 4 [(0, .ref (ad 0)), (1, .int x1), (2, .int x2), (3, .int x3)] → W p l e ({ frames := 5, cells := 0, slots := 0, locals := 110 }) s m args below meth c H locs 0 0 Q (F0 m 47 ls []) := by
    intro x1 x2 x3 τ H locs ls hT hI hl
    unfold T_isMending_47 at hT
    refine lv_aload_n hx hb dX6_isMending_47 rfl (lv_at hl 0 rfl) ?_
    refine tg_51 hC hI dX6_isMending_48 ?_
    refine lv_iconst (v := 4) hx hb dX6_isMending_51 (by decide) ?_
    refine lv_iconst (v := 5) hx hb dX6_isMending_52 (by decide) ?_
    refine lv_iload_n hx hb dX6_isMending_53 rfl (lv_at hl 1 rfl) ?_
    refine lv_imul hx hb dX6_isMending_54 ?_
    refine lv_iadd hx hb dX6_isMending_55 ?_
    refine lv_iload_n hx hb dX6_isMending_56 rfl (lv_at hl 3 rfl) ?_
    refine tw_iast hC hI tl_52 hT dX6_isMending_57 (fun τ1 H locs hT hI => ?_)
    refine lv_aload_n hx hb dX6_isMending_58 rfl (lv_at hl 0 rfl) ?_
    refine lv_iload_n hx hb dX6_isMending_59 rfl (lv_at hl 1 rfl) ?_
    refine lv_iload_n hx hb dX6_isMending_60 rfl (lv_at hl 2 rfl) ?_
    refine lv_iconst (v := 1) hx hb dX6_isMending_61 (by decide) ?_
    refine lv_iadd hx hb dX6_isMending_62 ?_
    refine tc_isKept hC hI hT ⟨Nat.le_of_ble_eq_true rfl, Nat.le_of_ble_eq_true rfl⟩ ⟨Nat.zero_le _, Nat.zero_le _⟩ hl.1 (Nat.le_of_ble_eq_true rfl) dX6_isMending_63 (fun τ2 H locs hT hI => ?_)
    exact hret _ _ _ _ _ hT hI dX6_isMending_66
  unfold T_isMending at hT
  refine lv_aload_n hx hb dX6_isMending_0 rfl (lv_at hl 0 rfl) ?_
  refine lv_iload_n hx hb dX6_isMending_1 rfl (lv_at hl 1 rfl) ?_
  refine lv_iload_n hx hb dX6_isMending_2 rfl (lv_at hl 2 rfl) ?_
  refine tc_fineOf hC hI hT ⟨Nat.le_of_ble_eq_true rfl, Nat.le_of_ble_eq_true rfl⟩ ⟨Nat.zero_le _, Nat.zero_le _⟩ hl.1 (Nat.le_of_ble_eq_true rfl) dX6_isMending_3 (fun r4 τ3 H locs hT hI => ?_)
  refine lv_istore_n (lv' := [(3, .int r4), (0, .ref (ad 0)), (1, .int x1), (2, .int x2)]) hx hb dX6_isMending_6 rfl hl (Nat.le_of_ble_eq_true rfl) rfl (fun ls hl => ?_)
  refine lv_aload_n hx hb dX6_isMending_7 rfl (lv_at hl 1 rfl) ?_
  refine tg_51 hC hI dX6_isMending_8 ?_
  refine lv_iconst (v := 1) hx hb dX6_isMending_11 (by decide) ?_
  refine lv_iconst (v := 5) hx hb dX6_isMending_12 (by decide) ?_
  refine lv_iload_n hx hb dX6_isMending_13 rfl (lv_at hl 2 rfl) ?_
  refine lv_imul hx hb dX6_isMending_14 ?_
  refine lv_iadd hx hb dX6_isMending_15 ?_
  refine lv_iconst (v := 2) hx hb dX6_isMending_16 (by decide) ?_
  refine tw_iast hC hI tl_52 hT dX6_isMending_17 (fun τ5 H locs hT hI => ?_)
  refine lv_aload_n hx hb dX6_isMending_18 rfl (lv_at hl 1 rfl) ?_
  refine tg_51 hC hI dX6_isMending_19 ?_
  refine lv_iconst (v := 3) hx hb dX6_isMending_22 (by decide) ?_
  refine lv_iconst (v := 5) hx hb dX6_isMending_23 (by decide) ?_
  refine lv_iload_n hx hb dX6_isMending_24 rfl (lv_at hl 2 rfl) ?_
  refine lv_imul hx hb dX6_isMending_25 ?_
  refine lv_iadd hx hb dX6_isMending_26 ?_
  refine tw_iald hC hI tl_52 hT dX6_isMending_27 (fun hT => ?_)
  refine lv_bipush (v := 99) hx hb dX6_isMending_28 (by decide) ?_
  refine lv_icmp_ge (tgt := 47) hx hb dX6_isMending_30 (by decide) (fun hc => ?_) (fun hc => ?_)
  · have hT := hT.1 hc
    exact w_47 x1 x2 r4 τ5 _ _ _ hT hI (lv_sub hl [1, 2, 3, 0] rfl)
  · have hT := hT.2 hc
    refine lv_aload_n hx hb dX6_isMending_33 rfl (lv_at hl 1 rfl) ?_
    refine tg_51 hC hI dX6_isMending_34 ?_
    refine lv_iconst (v := 3) hx hb dX6_isMending_37 (by decide) ?_
    refine lv_iconst (v := 5) hx hb dX6_isMending_38 (by decide) ?_
    refine lv_iload_n hx hb dX6_isMending_39 rfl (lv_at hl 2 rfl) ?_
    refine lv_imul hx hb dX6_isMending_40 ?_
    refine lv_iadd hx hb dX6_isMending_41 ?_
    refine lv_dup2_11 hx hb dX6_isMending_42 rfl rfl ?_
    refine tw_iald hC hI tl_52 hT dX6_isMending_43 (fun hT => ?_)
    refine lv_iconst (v := 1) hx hb dX6_isMending_44 (by decide) ?_
    refine lv_iadd hx hb dX6_isMending_45 ?_
    refine tw_iast hC hI tl_52 hT dX6_isMending_46 (fun τ6 H locs hT hI => ?_)
    exact w_47 x1 x2 r4 τ6 _ _ _ hT hI (lv_sub hl [1, 2, 3, 0] rfl)
theorem tc_isMending {p : Program} {l : Launch} {e : Env} {R : Room} {s : State} {m : MethodId} {args : Array Value} {below : List Frame} {meth : Method} {c : Code} {H : Heap} {locs : List Loc} {cells slots : Nat} {Q : State → Prop} {cc : ByteArray} {nL : Nat} {D : va_G} {dA : Nat → ClassId} {ad : Nat → Nat} {τ : Sto} {pc sz : Nat} {ls : Array Slot} {rest : List Value} {H0 : Heap} {x1 : Int32} {x2 : Int32} {K : Sto → Prop} (hC : tC p m c cc nL s args D dA ad) (hI : tI D dA ad sz H0 τ H locs) (hT : T_isMending τ x1 x2 K) (hR : 5 + 1 ≤ R.frames ∧ 8 + (4 + 11) + 110 ≤ R.locals) (hf : cells ≤ R.cells ∧ slots ≤ R.slots) (hsz : ls.size = nL) (hroom : (rest.map fun v => v.category).sum ≤ 8) (hdg : decode cc pc = .ok (.invokevirtual 458, 3)) (kk : ∀ (τ1 : Sto) (H1 : Heap) (locs1 : List Loc), K τ1 → tI D dA ad sz H0 τ1 H1 locs1 → W p l e R s m args below meth c H1 locs1 cells slots Q (F0 m (pc + 3) ls (rest))) : W p l e R s m args below meth c H locs cells slots Q (F0 m pc ls (.int x2 :: .int x1 :: .ref (ad 0) :: rest)) :=
  rg_callv (rg_runV hC.1 hC.2.1 hI.1 hI.2.1 tl_0 rfl (met_isMending l D dA ad hC.2.2 sz τ x1 x2 K hT) (lw_V q2387 q2389 qs135 q170 q2390) 2 (by decide +kernel) ⟨rfl, rfl⟩ hR rfl hsz rfl hroom hf hdg) hI.2.2 (fun τ1 H1 l1 hk hz hP hS => kk τ1 H1 l1 hk ⟨hP, hz, hS⟩)
set_option maxHeartbeats 4000000 in
set_option maxRecDepth 100000 in
theorem met_doMend (l : Launch) (D : va_G) (dA : Nat → ClassId) (ad : Nat → Nat) (hJ : rgJ twL ad) (sz : Nat) (τ : Sto) (K : Int32 → Sto → Prop) (hT : T_doMend τ K) : Met l yX6_doMend (ws_ yX6_doMend cX6_doMend 7 (some .boolean)) ({ frames := 6, cells := 0, slots := 0, locals := 133 }) (va_Pc [.ref (ad 0)] (rgU D vwCl dA twL ad sz τ)) (va_Qi K (rgU D vwCl dA twL ad sz) (rgAd twL ad)) 0 0 (rgAd twL ad) := by
  refine tw_metz hJ (by decide) rfl (Nat.le_of_ble_eq_true rfl) ?_
  intro p e s m args below meth c Q hC hret hI ls hl
  have hx := hC.1.1
  have hb := hC.1.2.1
  have hl : lv_has ls 7 [(0, .ref (ad 0))] := hl
  have w_7 : ∀ (n : Nat) (x1 : Int32) (x2 : Int64) (x4 : Int32) (τ : Sto) (H : Heap) (locs : List Loc) (ls : Array Slot), T_doMend_7 K n x1 x2 x4 τ → tI D dA ad sz s.heap τ H locs → lv_has ls 7 [(0, .ref (ad 0)), (1, .int x1), (2, .long x2), (4, .int x4)] → W p l e ({ frames := 6, cells := 0, slots := 0, locals := 133 }) s m args below meth c H locs 0 0 Q (F0 m 7 ls []) := by
    intro n
    induction n with
    | zero => intro x1 x2 x4 τ H locs ls hT; exact hT.elim
    | succ n ih =>
      intro x1 x2 x4 τ H locs ls hT hI hl
      unfold T_doMend_7 at hT
      refine lv_iload hx hb dX6_doMend_7 (lv_at hl 3 rfl) ?_
      refine lv_aload_n hx hb dX6_doMend_9 rfl (lv_at hl 0 rfl) ?_
      refine tc_thingMany hC hI hT ⟨Nat.le_of_ble_eq_true rfl, Nat.le_of_ble_eq_true rfl⟩ ⟨Nat.zero_le _, Nat.zero_le _⟩ hl.1 (Nat.le_of_ble_eq_true rfl) dX6_doMend_10 (fun r2 τ1 H locs hT hI => ?_)
      refine lv_icmp_ge (tgt := 73) hx hb dX6_doMend_13 (by decide) (fun hc => ?_) (fun hc => ?_)
      · have hT := hT.1 hc
        refine lv_iload_n hx hb dX6_doMend_73 rfl (lv_at hl 1 rfl) ?_
        refine lv_iconst (v := -1) hx hb dX6_doMend_74 (by decide) ?_
        refine lv_icmp_ne (tgt := 80) hx hb dX6_doMend_75 (by decide) (fun hc => ?_) (fun hc => ?_)
        · have hT := hT.1 hc
          refine lv_aload_n hx hb dX6_doMend_80 rfl (lv_at hl 0 rfl) ?_
          refine lv_iload_n hx hb dX6_doMend_81 rfl (lv_at hl 1 rfl) ?_
          refine tc_menderFor hC hI hT ⟨Nat.le_of_ble_eq_true rfl, Nat.le_of_ble_eq_true rfl⟩ ⟨Nat.zero_le _, Nat.zero_le _⟩ hl.1 (Nat.le_of_ble_eq_true rfl) dX6_doMend_82 (fun r4 τ3 H locs hT hI => ?_)
          refine lv_istore (lv' := [(4, .int r4), (0, .ref (ad 0)), (1, .int x1), (2, .long x2)]) hx hb dX6_doMend_85 hl (Nat.le_of_ble_eq_true rfl) rfl (fun ls hl => ?_)
          refine lv_aload_n hx hb dX6_doMend_87 rfl (lv_at hl 1 rfl) ?_
          refine tg_60 hC hI dX6_doMend_88 ?_
          refine lv_iload hx hb dX6_doMend_91 (lv_at hl 0 rfl) ?_
          refine lv_dup2_11 hx hb dX6_doMend_93 rfl rfl ?_
          refine tw_iald hC hI tl_61 hT dX6_doMend_94 (fun hT => ?_)
          refine lv_aload_n hx hb dX6_doMend_95 rfl (lv_at hl 1 rfl) ?_
          refine lv_iload_n hx hb dX6_doMend_96 rfl (lv_at hl 2 rfl) ?_
          refine lv_iload hx hb dX6_doMend_97 (lv_at hl 0 rfl) ?_
          refine tc_hoursOf hC hI hT ⟨Nat.le_of_ble_eq_true rfl, Nat.le_of_ble_eq_true rfl⟩ ⟨Nat.zero_le _, Nat.zero_le _⟩ hl.1 (Nat.le_of_ble_eq_true rfl) dX6_doMend_99 (fun r6 τ5 H locs hT hI => ?_)
          refine lv_isub hx hb dX6_doMend_102 ?_
          refine tw_iast hC hI tl_61 hT dX6_doMend_103 (fun τ7 H locs hT hI => ?_)
          refine lv_aload_n hx hb dX6_doMend_104 rfl (lv_at hl 1 rfl) ?_
          refine lv_iload_n hx hb dX6_doMend_105 rfl (lv_at hl 2 rfl) ?_
          refine lv_iload hx hb dX6_doMend_106 (lv_at hl 0 rfl) ?_
          refine tc_isMending hC hI hT ⟨Nat.le_of_ble_eq_true rfl, Nat.le_of_ble_eq_true rfl⟩ ⟨Nat.zero_le _, Nat.zero_le _⟩ hl.1 (Nat.le_of_ble_eq_true rfl) dX6_doMend_108 (fun τ8 H locs hT hI => ?_)
          refine lv_iconst (v := 1) hx hb dX6_doMend_111 (by decide) ?_
          exact hret _ _ _ _ _ _ (by decide) hT hI dX6_doMend_112
        · have hT := hT.2 hc
          refine lv_iconst (v := 0) hx hb dX6_doMend_78 (by decide) ?_
          exact hret _ _ _ _ _ _ (by decide) hT hI dX6_doMend_79
      · have hT := hT.2 hc
        refine lv_aload_n hx hb dX6_doMend_16 rfl (lv_at hl 0 rfl) ?_
        refine lv_iload hx hb dX6_doMend_17 (lv_at hl 3 rfl) ?_
        refine tc_isBroken hC hI hT ⟨Nat.le_of_ble_eq_true rfl, Nat.le_of_ble_eq_true rfl⟩ ⟨Nat.zero_le _, Nat.zero_le _⟩ hl.1 (Nat.le_of_ble_eq_true rfl) dX6_doMend_19 (fun r10 τ9 H locs hT hI => ?_)
        refine lv_if_eq (tgt := 67) hx hb dX6_doMend_22 (by decide) (fun hc => ?_) (fun hc => ?_)
        · have hT := hT.1 hc
          refine lv_iinc (v := x4 + 1) (lv' := [(4, .int (x4 + 1)), (0, .ref (ad 0)), (1, .int x1), (2, .long x2)]) hx hb dX6_doMend_67 hl (k := 3) rfl rfl (Nat.le_of_ble_eq_true rfl) rfl (fun ls hl => ?_)
          refine lv_goto (tgt := 7) hx hb dX6_doMend_70 (by decide) ?_
          exact ih x1 x2 (x4 + 1) τ9 _ _ _ hT hI (lv_sub hl [1, 2, 3, 0] rfl)
        · have hT := hT.2 hc
          refine lv_aload_n hx hb dX6_doMend_25 rfl (lv_at hl 0 rfl) ?_
          refine lv_iload hx hb dX6_doMend_26 (lv_at hl 3 rfl) ?_
          refine tc_menderFor hC hI hT ⟨Nat.le_of_ble_eq_true rfl, Nat.le_of_ble_eq_true rfl⟩ ⟨Nat.zero_le _, Nat.zero_le _⟩ hl.1 (Nat.le_of_ble_eq_true rfl) dX6_doMend_28 (fun r12 τ11 H locs hT hI => ?_)
          refine lv_iconst (v := -1) hx hb dX6_doMend_31 (by decide) ?_
          refine lv_icmp_ne (tgt := 38) hx hb dX6_doMend_32 (by decide) (fun hc => ?_) (fun hc => ?_)
          · have hT := hT.1 hc
            refine lv_aload_n hx hb dX6_doMend_38 rfl (lv_at hl 0 rfl) ?_
            refine lv_iload hx hb dX6_doMend_39 (lv_at hl 3 rfl) ?_
            refine tc_firstOf hC hI hT ⟨Nat.le_of_ble_eq_true rfl, Nat.le_of_ble_eq_true rfl⟩ ⟨Nat.zero_le _, Nat.zero_le _⟩ hl.1 (Nat.le_of_ble_eq_true rfl) dX6_doMend_41 (fun r14 τ13 H locs hT hI => ?_)
            refine lv_lstore (lv' := [(5, .long r14), (0, .ref (ad 0)), (1, .int x1), (2, .long x2), (4, .int x4)]) hx hb dX6_doMend_44 hl (Nat.le_of_ble_eq_true rfl) rfl (fun ls hl => ?_)
            refine lv_iload_n hx hb dX6_doMend_46 rfl (lv_at hl 2 rfl) ?_
            refine lv_iconst (v := -1) hx hb dX6_doMend_47 (by decide) ?_
            refine lv_icmp_eq (tgt := 61) hx hb dX6_doMend_48 (by decide) (fun hc => ?_) (fun hc => ?_)
            · have hT := hT.1 hc
              refine lv_iload hx hb dX6_doMend_61 (lv_at hl 4 rfl) ?_
              refine lv_istore_n (lv' := [(1, .int x4), (5, .long r14), (0, .ref (ad 0)), (2, .long x2), (4, .int x4)]) hx hb dX6_doMend_63 rfl hl (Nat.le_of_ble_eq_true rfl) rfl (fun ls hl => ?_)
              refine lv_lload hx hb dX6_doMend_64 (lv_at hl 1 rfl) ?_
              refine lv_lstore_n (lv' := [(2, .long r14), (1, .int x4), (5, .long r14), (0, .ref (ad 0)), (4, .int x4)]) hx hb dX6_doMend_66 rfl hl (Nat.le_of_ble_eq_true rfl) rfl (fun ls hl => ?_)
              refine lv_iinc (v := x4 + 1) (lv' := [(4, .int (x4 + 1)), (2, .long r14), (1, .int x4), (5, .long r14), (0, .ref (ad 0))]) hx hb dX6_doMend_67 hl (k := 4) rfl rfl (Nat.le_of_ble_eq_true rfl) rfl (fun ls hl => ?_)
              refine lv_goto (tgt := 7) hx hb dX6_doMend_70 (by decide) ?_
              exact ih x4 r14 (x4 + 1) τ13 _ _ _ hT hI (lv_sub hl [4, 2, 1, 0] rfl)
            · have hT := hT.2 hc
              refine lv_lload hx hb dX6_doMend_51 (lv_at hl 0 rfl) ?_
              refine lv_lload_n hx hb dX6_doMend_53 rfl (lv_at hl 3 rfl) ?_
              refine rl_gt (tgt := 61) hx hb dX6_doMend_54 dX6_doMend_55 (by decide) (fun hc => ?_) (fun hc => ?_)
              · have hT := hT.1 hc
                refine lv_iload hx hb dX6_doMend_61 (lv_at hl 4 rfl) ?_
                refine lv_istore_n (lv' := [(1, .int x4), (5, .long r14), (0, .ref (ad 0)), (2, .long x2), (4, .int x4)]) hx hb dX6_doMend_63 rfl hl (Nat.le_of_ble_eq_true rfl) rfl (fun ls hl => ?_)
                refine lv_lload hx hb dX6_doMend_64 (lv_at hl 1 rfl) ?_
                refine lv_lstore_n (lv' := [(2, .long r14), (1, .int x4), (5, .long r14), (0, .ref (ad 0)), (4, .int x4)]) hx hb dX6_doMend_66 rfl hl (Nat.le_of_ble_eq_true rfl) rfl (fun ls hl => ?_)
                refine lv_iinc (v := x4 + 1) (lv' := [(4, .int (x4 + 1)), (2, .long r14), (1, .int x4), (5, .long r14), (0, .ref (ad 0))]) hx hb dX6_doMend_67 hl (k := 4) rfl rfl (Nat.le_of_ble_eq_true rfl) rfl (fun ls hl => ?_)
                refine lv_goto (tgt := 7) hx hb dX6_doMend_70 (by decide) ?_
                exact ih x4 r14 (x4 + 1) τ13 _ _ _ hT hI (lv_sub hl [4, 2, 1, 0] rfl)
              · have hT := hT.2 hc
                refine lv_goto (tgt := 67) hx hb dX6_doMend_58 (by decide) ?_
                refine lv_iinc (v := x4 + 1) (lv' := [(4, .int (x4 + 1)), (5, .long r14), (0, .ref (ad 0)), (1, .int x1), (2, .long x2)]) hx hb dX6_doMend_67 hl (k := 4) rfl rfl (Nat.le_of_ble_eq_true rfl) rfl (fun ls hl => ?_)
                refine lv_goto (tgt := 7) hx hb dX6_doMend_70 (by decide) ?_
                exact ih x1 x2 (x4 + 1) τ13 _ _ _ hT hI (lv_sub hl [2, 3, 4, 0] rfl)
          · have hT := hT.2 hc
            refine lv_goto (tgt := 67) hx hb dX6_doMend_35 (by decide) ?_
            refine lv_iinc (v := x4 + 1) (lv' := [(4, .int (x4 + 1)), (0, .ref (ad 0)), (1, .int x1), (2, .long x2)]) hx hb dX6_doMend_67 hl (k := 3) rfl rfl (Nat.le_of_ble_eq_true rfl) rfl (fun ls hl => ?_)
            refine lv_goto (tgt := 7) hx hb dX6_doMend_70 (by decide) ?_
            exact ih x1 x2 (x4 + 1) τ11 _ _ _ hT hI (lv_sub hl [1, 2, 3, 0] rfl)
  unfold T_doMend at hT
  refine lv_iconst (v := -1) hx hb dX6_doMend_0 (by decide) ?_
  refine lv_istore_n (lv' := [(1, .int (-1)), (0, .ref (ad 0))]) hx hb dX6_doMend_1 rfl hl (Nat.le_of_ble_eq_true rfl) rfl (fun ls hl => ?_)
  refine lv_lconst (v := 0) hx hb dX6_doMend_2 (by decide) ?_
  refine lv_lstore_n (lv' := [(2, .long 0), (1, .int (-1)), (0, .ref (ad 0))]) hx hb dX6_doMend_3 rfl hl (Nat.le_of_ble_eq_true rfl) rfl (fun ls hl => ?_)
  refine lv_iconst (v := 0) hx hb dX6_doMend_4 (by decide) ?_
  refine lv_istore (lv' := [(4, .int 0), (2, .long 0), (1, .int (-1)), (0, .ref (ad 0))]) hx hb dX6_doMend_5 hl (Nat.le_of_ble_eq_true rfl) rfl (fun ls hl => ?_)
  obtain ⟨n7, hT⟩ := hT
  exact w_7 n7 (-1) 0 0 τ _ _ _ hT hI (lv_sub hl [3, 2, 1, 0] rfl)
theorem tc_doMend {p : Program} {l : Launch} {e : Env} {R : Room} {s : State} {m : MethodId} {args : Array Value} {below : List Frame} {meth : Method} {c : Code} {H : Heap} {locs : List Loc} {cells slots : Nat} {Q : State → Prop} {cc : ByteArray} {nL : Nat} {D : va_G} {dA : Nat → ClassId} {ad : Nat → Nat} {τ : Sto} {pc sz : Nat} {ls : Array Slot} {rest : List Value} {H0 : Heap} {K : Int32 → Sto → Prop} (hC : tC p m c cc nL s args D dA ad) (hI : tI D dA ad sz H0 τ H locs) (hT : T_doMend τ K) (hR : 6 + 1 ≤ R.frames ∧ 8 + (7 + 11) + 133 ≤ R.locals) (hf : cells ≤ R.cells ∧ slots ≤ R.slots) (hsz : ls.size = nL) (hroom : (rest.map fun v => v.category).sum ≤ 8) (hdg : decode cc pc = .ok (.invokevirtual 464, 3)) (kk : ∀ (r : Int32) (τ1 : Sto) (H1 : Heap) (locs1 : List Loc), K r τ1 → tI D dA ad sz H0 τ1 H1 locs1 → W p l e R s m args below meth c H1 locs1 cells slots Q (F0 m (pc + 3) ls (.int r :: rest))) : W p l e R s m args below meth c H locs cells slots Q (F0 m pc ls (.ref (ad 0) :: rest)) :=
  rg_calli (rg_runV hC.1 hC.2.1 hI.1 hI.2.1 tl_0 rfl (met_doMend l D dA ad hC.2.2 sz τ K hT) (lw_V q2375 q2377 qs132 q170 q2378) 0 (by decide +kernel) ⟨rfl, rfl⟩ hR rfl hsz rfl hroom hf hdg) hI.2.2 (fun r τ1 H1 l1 hk hz hP hS => kk r τ1 H1 l1 hk ⟨hP, hz, hS⟩)
set_option maxHeartbeats 4000000 in
set_option maxRecDepth 100000 in
theorem met_dayGoes (l : Launch) (D : va_G) (dA : Nat → ClassId) (ad : Nat → Nat) (hJ : rgJ twL ad) (sz : Nat) (τ : Sto) (K : Sto → Prop) (hT : T_dayGoes τ K) : Met l yX6_dayGoes (ws_ yX6_dayGoes cX6_dayGoes 2 (none)) ({ frames := 7, cells := 0, slots := 0, locals := 159 }) (va_Pc [.ref (ad 0)] (rgU D vwCl dA twL ad sz τ)) (va_Qv K (rgU D vwCl dA twL ad sz) (rgAd twL ad)) 0 0 (rgAd twL ad) := by
  refine tw_metv hJ (by decide) rfl (Nat.le_of_ble_eq_true rfl) ?_
  intro p e s m args below meth c Q hC hret hI ls hl
  have hx := hC.1.1
  have hb := hC.1.2.1
  have hl : lv_has ls 2 [(0, .ref (ad 0))] := hl
  have w_119 : ∀ (n : Nat) (x1 : Int32) (τ : Sto) (H : Heap) (locs : List Loc) (ls : Array Slot), T_dayGoes_119 K n x1 τ → tI D dA ad sz s.heap τ H locs → lv_has ls 2 [(0, .ref (ad 0)), (1, .int x1)] → W p l e ({ frames := 7, cells := 0, slots := 0, locals := 159 }) s m args below meth c H locs 0 0 Q (F0 m 119 ls []) := by
    intro n
    induction n with
    | zero => intro x1 τ H locs ls hT; exact hT.elim
    | succ n ih =>
      intro x1 τ H locs ls hT hI hl
      unfold T_dayGoes_119 at hT
      refine lv_iload_n hx hb dX6_dayGoes_119 rfl (lv_at hl 1 rfl) ?_
      refine lv_if_eq (tgt := 131) hx hb dX6_dayGoes_120 (by decide) (fun hc => ?_) (fun hc => ?_)
      · have hT := hT.1 hc
        refine lv_aload_n hx hb dX6_dayGoes_131 rfl (lv_at hl 0 rfl) ?_
        refine tg_51 hC hI dX6_dayGoes_132 ?_
        refine lv_iconst (v := 0) hx hb dX6_dayGoes_135 (by decide) ?_
        refine lv_dup2_11 hx hb dX6_dayGoes_136 rfl rfl ?_
        refine tw_iald hC hI tl_52 hT dX6_dayGoes_137 (fun hT => ?_)
        refine lv_iconst (v := 1) hx hb dX6_dayGoes_138 (by decide) ?_
        refine lv_iadd hx hb dX6_dayGoes_139 ?_
        refine tw_iast hC hI tl_52 hT dX6_dayGoes_140 (fun τ1 H locs hT hI => ?_)
        exact hret _ _ _ _ _ hT hI dX6_dayGoes_141
      · have hT := hT.2 hc
        refine lv_aload_n hx hb dX6_dayGoes_123 rfl (lv_at hl 0 rfl) ?_
        refine tc_doMend hC hI hT ⟨Nat.le_of_ble_eq_true rfl, Nat.le_of_ble_eq_true rfl⟩ ⟨Nat.zero_le _, Nat.zero_le _⟩ hl.1 (Nat.le_of_ble_eq_true rfl) dX6_dayGoes_124 (fun r3 τ2 H locs hT hI => ?_)
        refine lv_istore_n (lv' := [(1, .int r3), (0, .ref (ad 0))]) hx hb dX6_dayGoes_127 rfl hl (Nat.le_of_ble_eq_true rfl) rfl (fun ls hl => ?_)
        refine lv_goto (tgt := 119) hx hb dX6_dayGoes_128 (by decide) ?_
        exact ih r3 τ2 _ _ _ hT hI (lv_sub hl [1, 0] rfl)
  have w_86 : ∀ (n : Nat) (x1 : Int32) (τ : Sto) (H : Heap) (locs : List Loc) (ls : Array Slot), T_dayGoes_86 K n x1 τ → tI D dA ad sz s.heap τ H locs → lv_has ls 2 [(0, .ref (ad 0)), (1, .int x1)] → W p l e ({ frames := 7, cells := 0, slots := 0, locals := 159 }) s m args below meth c H locs 0 0 Q (F0 m 86 ls []) := by
    intro n
    induction n with
    | zero => intro x1 τ H locs ls hT; exact hT.elim
    | succ n ih =>
      intro x1 τ H locs ls hT hI hl
      unfold T_dayGoes_86 at hT
      refine lv_iload_n hx hb dX6_dayGoes_86 rfl (lv_at hl 1 rfl) ?_
      refine lv_aload_n hx hb dX6_dayGoes_87 rfl (lv_at hl 0 rfl) ?_
      refine tc_menderMany hC hI hT ⟨Nat.le_of_ble_eq_true rfl, Nat.le_of_ble_eq_true rfl⟩ ⟨Nat.zero_le _, Nat.zero_le _⟩ hl.1 (Nat.le_of_ble_eq_true rfl) dX6_dayGoes_88 (fun r5 τ4 H locs hT hI => ?_)
      refine lv_icmp_ge (tgt := 117) hx hb dX6_dayGoes_91 (by decide) (fun hc => ?_) (fun hc => ?_)
      · have hT := hT.1 hc
        refine lv_iconst (v := 1) hx hb dX6_dayGoes_117 (by decide) ?_
        refine lv_istore_n (lv' := [(1, .int 1), (0, .ref (ad 0))]) hx hb dX6_dayGoes_118 rfl hl (Nat.le_of_ble_eq_true rfl) rfl (fun ls hl => ?_)
        obtain ⟨n119, hT⟩ := hT
        exact w_119 n119 1 τ4 _ _ _ hT hI (lv_sub hl [1, 0] rfl)
      · have hT := hT.2 hc
        refine lv_aload_n hx hb dX6_dayGoes_94 rfl (lv_at hl 0 rfl) ?_
        refine tg_60 hC hI dX6_dayGoes_95 ?_
        refine lv_iload_n hx hb dX6_dayGoes_98 rfl (lv_at hl 1 rfl) ?_
        refine lv_aload_n hx hb dX6_dayGoes_99 rfl (lv_at hl 0 rfl) ?_
        refine tg_42 hC hI dX6_dayGoes_100 ?_
        refine lv_bipush (v := 9) hx hb dX6_dayGoes_103 (by decide) ?_
        refine lv_iconst (v := 2) hx hb dX6_dayGoes_105 (by decide) ?_
        refine lv_iload_n hx hb dX6_dayGoes_106 rfl (lv_at hl 1 rfl) ?_
        refine lv_imul hx hb dX6_dayGoes_107 ?_
        refine lv_iadd hx hb dX6_dayGoes_108 ?_
        refine tw_iald hC hI tl_43 hT dX6_dayGoes_109 (fun hT => ?_)
        refine tw_iast hC hI tl_61 hT dX6_dayGoes_110 (fun τ6 H locs hT hI => ?_)
        refine lv_iinc (v := x1 + 1) (lv' := [(1, .int (x1 + 1)), (0, .ref (ad 0))]) hx hb dX6_dayGoes_111 hl (k := 1) rfl rfl (Nat.le_of_ble_eq_true rfl) rfl (fun ls hl => ?_)
        refine lv_goto (tgt := 86) hx hb dX6_dayGoes_114 (by decide) ?_
        exact ih (x1 + 1) τ6 _ _ _ hT hI (lv_sub hl [1, 0] rfl)
  have w_56 : ∀ (n : Nat) (x1 : Int32) (τ : Sto) (H : Heap) (locs : List Loc) (ls : Array Slot), T_dayGoes_56 K n x1 τ → tI D dA ad sz s.heap τ H locs → lv_has ls 2 [(0, .ref (ad 0)), (1, .int x1)] → W p l e ({ frames := 7, cells := 0, slots := 0, locals := 159 }) s m args below meth c H locs 0 0 Q (F0 m 56 ls []) := by
    intro n
    induction n with
    | zero => intro x1 τ H locs ls hT; exact hT.elim
    | succ n ih =>
      intro x1 τ H locs ls hT hI hl
      unfold T_dayGoes_56 at hT
      refine lv_iload_n hx hb dX6_dayGoes_56 rfl (lv_at hl 1 rfl) ?_
      refine lv_aload_n hx hb dX6_dayGoes_57 rfl (lv_at hl 0 rfl) ?_
      refine tc_thingMany hC hI hT ⟨Nat.le_of_ble_eq_true rfl, Nat.le_of_ble_eq_true rfl⟩ ⟨Nat.zero_le _, Nat.zero_le _⟩ hl.1 (Nat.le_of_ble_eq_true rfl) dX6_dayGoes_58 (fun r8 τ7 H locs hT hI => ?_)
      refine lv_icmp_ge (tgt := 84) hx hb dX6_dayGoes_61 (by decide) (fun hc => ?_) (fun hc => ?_)
      · have hT := hT.1 hc
        refine lv_iconst (v := 0) hx hb dX6_dayGoes_84 (by decide) ?_
        refine lv_istore_n (lv' := [(1, .int 0), (0, .ref (ad 0))]) hx hb dX6_dayGoes_85 rfl hl (Nat.le_of_ble_eq_true rfl) rfl (fun ls hl => ?_)
        obtain ⟨n86, hT⟩ := hT
        exact w_86 n86 0 τ7 _ _ _ hT hI (lv_sub hl [1, 0] rfl)
      · have hT := hT.2 hc
        refine lv_aload_n hx hb dX6_dayGoes_64 rfl (lv_at hl 0 rfl) ?_
        refine tg_59 hC hI dX6_dayGoes_65 ?_
        refine lv_iload_n hx hb dX6_dayGoes_68 rfl (lv_at hl 1 rfl) ?_
        refine tw_zald hC hI tl_60 hT dX6_dayGoes_69 (fun hT => ?_)
        refine lv_if_eq (tgt := 78) hx hb dX6_dayGoes_70 (by decide) (fun hc => ?_) (fun hc => ?_)
        · have hT := hT.1 hc
          refine lv_iinc (v := x1 + 1) (lv' := [(1, .int (x1 + 1)), (0, .ref (ad 0))]) hx hb dX6_dayGoes_78 hl (k := 1) rfl rfl (Nat.le_of_ble_eq_true rfl) rfl (fun ls hl => ?_)
          refine lv_goto (tgt := 56) hx hb dX6_dayGoes_81 (by decide) ?_
          exact ih (x1 + 1) τ7 _ _ _ hT hI (lv_sub hl [1, 0] rfl)
        · have hT := hT.2 hc
          refine lv_aload_n hx hb dX6_dayGoes_73 rfl (lv_at hl 0 rfl) ?_
          refine lv_iload_n hx hb dX6_dayGoes_74 rfl (lv_at hl 1 rfl) ?_
          refine tc_isBreaking hC hI hT ⟨Nat.le_of_ble_eq_true rfl, Nat.le_of_ble_eq_true rfl⟩ ⟨Nat.zero_le _, Nat.zero_le _⟩ hl.1 (Nat.le_of_ble_eq_true rfl) dX6_dayGoes_75 (fun τ9 H locs hT hI => ?_)
          refine lv_iinc (v := x1 + 1) (lv' := [(1, .int (x1 + 1)), (0, .ref (ad 0))]) hx hb dX6_dayGoes_78 hl (k := 1) rfl rfl (Nat.le_of_ble_eq_true rfl) rfl (fun ls hl => ?_)
          refine lv_goto (tgt := 56) hx hb dX6_dayGoes_81 (by decide) ?_
          exact ih (x1 + 1) τ9 _ _ _ hT hI (lv_sub hl [1, 0] rfl)
  have w_2 : ∀ (n : Nat) (x1 : Int32) (τ : Sto) (H : Heap) (locs : List Loc) (ls : Array Slot), T_dayGoes_2 K n x1 τ → tI D dA ad sz s.heap τ H locs → lv_has ls 2 [(0, .ref (ad 0)), (1, .int x1)] → W p l e ({ frames := 7, cells := 0, slots := 0, locals := 159 }) s m args below meth c H locs 0 0 Q (F0 m 2 ls []) := by
    intro n
    induction n with
    | zero => intro x1 τ H locs ls hT; exact hT.elim
    | succ n ih =>
      intro x1 τ H locs ls hT hI hl
      unfold T_dayGoes_2 at hT
      refine lv_iload_n hx hb dX6_dayGoes_2 rfl (lv_at hl 1 rfl) ?_
      refine lv_aload_n hx hb dX6_dayGoes_3 rfl (lv_at hl 0 rfl) ?_
      refine tc_thingMany hC hI hT ⟨Nat.le_of_ble_eq_true rfl, Nat.le_of_ble_eq_true rfl⟩ ⟨Nat.zero_le _, Nat.zero_le _⟩ hl.1 (Nat.le_of_ble_eq_true rfl) dX6_dayGoes_4 (fun r11 τ10 H locs hT hI => ?_)
      refine lv_icmp_ge (tgt := 54) hx hb dX6_dayGoes_7 (by decide) (fun hc => ?_) (fun hc => ?_)
      · have hT := hT.1 hc
        refine lv_iconst (v := 0) hx hb dX6_dayGoes_54 (by decide) ?_
        refine lv_istore_n (lv' := [(1, .int 0), (0, .ref (ad 0))]) hx hb dX6_dayGoes_55 rfl hl (Nat.le_of_ble_eq_true rfl) rfl (fun ls hl => ?_)
        obtain ⟨n56, hT⟩ := hT
        exact w_56 n56 0 τ10 _ _ _ hT hI (lv_sub hl [1, 0] rfl)
      · have hT := hT.2 hc
        refine lv_aload_n hx hb dX6_dayGoes_10 rfl (lv_at hl 0 rfl) ?_
        refine tg_59 hC hI dX6_dayGoes_11 ?_
        refine lv_iload_n hx hb dX6_dayGoes_14 rfl (lv_at hl 1 rfl) ?_
        refine lv_aload_n hx hb dX6_dayGoes_15 rfl (lv_at hl 0 rfl) ?_
        refine lv_iload_n hx hb dX6_dayGoes_16 rfl (lv_at hl 1 rfl) ?_
        refine tc_isBroken hC hI hT ⟨Nat.le_of_ble_eq_true rfl, Nat.le_of_ble_eq_true rfl⟩ ⟨Nat.zero_le _, Nat.zero_le _⟩ hl.1 (Nat.le_of_ble_eq_true rfl) dX6_dayGoes_17 (fun r13 τ12 H locs hT hI => ?_)
        refine lv_if_ne (tgt := 46) hx hb dX6_dayGoes_20 (by decide) (fun hc => ?_) (fun hc => ?_)
        · have hT := hT.1 hc
          refine lv_iconst (v := 0) hx hb dX6_dayGoes_46 (by decide) ?_
          refine tw_zast hC hI tl_60 hT dX6_dayGoes_47 (fun τ14 H locs hT hI => ?_)
          refine lv_iinc (v := x1 + 1) (lv' := [(1, .int (x1 + 1)), (0, .ref (ad 0))]) hx hb dX6_dayGoes_48 hl (k := 1) rfl rfl (Nat.le_of_ble_eq_true rfl) rfl (fun ls hl => ?_)
          refine lv_goto (tgt := 2) hx hb dX6_dayGoes_51 (by decide) ?_
          exact ih (x1 + 1) τ14 _ _ _ hT hI (lv_sub hl [1, 0] rfl)
        · have hT := hT.2 hc
          refine lv_aload_n hx hb dX6_dayGoes_23 rfl (lv_at hl 0 rfl) ?_
          refine lv_iconst (v := 1) hx hb dX6_dayGoes_24 (by decide) ?_
          refine tc_isTold hC hI hT ⟨Nat.le_of_ble_eq_true rfl, Nat.le_of_ble_eq_true rfl⟩ ⟨Nat.zero_le _, Nat.zero_le _⟩ hl.1 (Nat.le_of_ble_eq_true rfl) dX6_dayGoes_25 (fun r16 τ15 H locs hT hI => ?_)
          refine lv_if_eq (tgt := 46) hx hb dX6_dayGoes_28 (by decide) (fun hc => ?_) (fun hc => ?_)
          · have hT := hT.1 hc
            refine lv_iconst (v := 0) hx hb dX6_dayGoes_46 (by decide) ?_
            refine tw_zast hC hI tl_60 hT dX6_dayGoes_47 (fun τ17 H locs hT hI => ?_)
            refine lv_iinc (v := x1 + 1) (lv' := [(1, .int (x1 + 1)), (0, .ref (ad 0))]) hx hb dX6_dayGoes_48 hl (k := 1) rfl rfl (Nat.le_of_ble_eq_true rfl) rfl (fun ls hl => ?_)
            refine lv_goto (tgt := 2) hx hb dX6_dayGoes_51 (by decide) ?_
            exact ih (x1 + 1) τ17 _ _ _ hT hI (lv_sub hl [1, 0] rfl)
          · have hT := hT.2 hc
            refine lv_aload_n hx hb dX6_dayGoes_31 rfl (lv_at hl 0 rfl) ?_
            refine lv_iconst (v := 1) hx hb dX6_dayGoes_32 (by decide) ?_
            refine lv_iload_n hx hb dX6_dayGoes_33 rfl (lv_at hl 1 rfl) ?_
            refine tc_codesTell hC hI hT ⟨Nat.le_of_ble_eq_true rfl, Nat.le_of_ble_eq_true rfl⟩ ⟨Nat.zero_le _, Nat.zero_le _⟩ hl.1 (Nat.le_of_ble_eq_true rfl) dX6_dayGoes_34 (fun r19 τ18 H locs hT hI => ?_)
            refine lv_lconst (v := 1) hx hb dX6_dayGoes_37 (by decide) ?_
            refine rl_ne (tgt := 46) hx hb dX6_dayGoes_38 dX6_dayGoes_39 (by decide) (fun hc => ?_) (fun hc => ?_)
            · have hT := hT.1 hc
              refine lv_iconst (v := 0) hx hb dX6_dayGoes_46 (by decide) ?_
              refine tw_zast hC hI tl_60 hT dX6_dayGoes_47 (fun τ20 H locs hT hI => ?_)
              refine lv_iinc (v := x1 + 1) (lv' := [(1, .int (x1 + 1)), (0, .ref (ad 0))]) hx hb dX6_dayGoes_48 hl (k := 1) rfl rfl (Nat.le_of_ble_eq_true rfl) rfl (fun ls hl => ?_)
              refine lv_goto (tgt := 2) hx hb dX6_dayGoes_51 (by decide) ?_
              exact ih (x1 + 1) τ20 _ _ _ hT hI (lv_sub hl [1, 0] rfl)
            · have hT := hT.2 hc
              refine lv_iconst (v := 1) hx hb dX6_dayGoes_42 (by decide) ?_
              refine lv_goto (tgt := 47) hx hb dX6_dayGoes_43 (by decide) ?_
              refine tw_zast hC hI tl_60 hT dX6_dayGoes_47 (fun τ21 H locs hT hI => ?_)
              refine lv_iinc (v := x1 + 1) (lv' := [(1, .int (x1 + 1)), (0, .ref (ad 0))]) hx hb dX6_dayGoes_48 hl (k := 1) rfl rfl (Nat.le_of_ble_eq_true rfl) rfl (fun ls hl => ?_)
              refine lv_goto (tgt := 2) hx hb dX6_dayGoes_51 (by decide) ?_
              exact ih (x1 + 1) τ21 _ _ _ hT hI (lv_sub hl [1, 0] rfl)
  unfold T_dayGoes at hT
  refine lv_iconst (v := 0) hx hb dX6_dayGoes_0 (by decide) ?_
  refine lv_istore_n (lv' := [(1, .int 0), (0, .ref (ad 0))]) hx hb dX6_dayGoes_1 rfl hl (Nat.le_of_ble_eq_true rfl) rfl (fun ls hl => ?_)
  obtain ⟨n2, hT⟩ := hT
  exact w_2 n2 0 τ _ _ _ hT hI (lv_sub hl [1, 0] rfl)
theorem tc_dayGoes {p : Program} {l : Launch} {e : Env} {R : Room} {s : State} {m : MethodId} {args : Array Value} {below : List Frame} {meth : Method} {c : Code} {H : Heap} {locs : List Loc} {cells slots : Nat} {Q : State → Prop} {cc : ByteArray} {nL : Nat} {D : va_G} {dA : Nat → ClassId} {ad : Nat → Nat} {τ : Sto} {pc sz : Nat} {ls : Array Slot} {rest : List Value} {H0 : Heap} {K : Sto → Prop} (hC : tC p m c cc nL s args D dA ad) (hI : tI D dA ad sz H0 τ H locs) (hT : T_dayGoes τ K) (hR : 7 + 1 ≤ R.frames ∧ 8 + (2 + 11) + 159 ≤ R.locals) (hf : cells ≤ R.cells ∧ slots ≤ R.slots) (hsz : ls.size = nL) (hroom : (rest.map fun v => v.category).sum ≤ 8) (hdg : decode cc pc = .ok (.invokevirtual 467, 3)) (kk : ∀ (τ1 : Sto) (H1 : Heap) (locs1 : List Loc), K τ1 → tI D dA ad sz H0 τ1 H1 locs1 → W p l e R s m args below meth c H1 locs1 cells slots Q (F0 m (pc + 3) ls (rest))) : W p l e R s m args below meth c H locs cells slots Q (F0 m pc ls (.ref (ad 0) :: rest)) :=
  rg_callv (rg_runV hC.1 hC.2.1 hI.1 hI.2.1 tl_0 rfl (met_dayGoes l D dA ad hC.2.2 sz τ K hT) (lw_V q2359 q2361 qs128 q170 q2362) 0 (by decide +kernel) ⟨rfl, rfl⟩ hR rfl hsz rfl hroom hf hdg) hI.2.2 (fun τ1 H1 l1 hk hz hP hS => kk τ1 H1 l1 hk ⟨hP, hz, hS⟩)
set_option maxHeartbeats 4000000 in
set_option maxRecDepth 100000 in
theorem met_daysGo (l : Launch) (D : va_G) (dA : Nat → ClassId) (ad : Nat → Nat) (hJ : rgJ twL ad) (sz : Nat) (τ : Sto) (x1 : Int32) (K : Sto → Prop) (hT : T_daysGo τ x1 K) : Met l yX6_daysGo (ws_ yX6_daysGo cX6_daysGo 3 (none)) ({ frames := 8, cells := 0, slots := 0, locals := 180 }) (va_Pc [.ref (ad 0), .int x1] (rgU D vwCl dA twL ad sz τ)) (va_Qv K (rgU D vwCl dA twL ad sz) (rgAd twL ad)) 0 0 (rgAd twL ad) := by
  refine tw_metv hJ (by decide) rfl (Nat.le_of_ble_eq_true rfl) ?_
  intro p e s m args below meth c Q hC hret hI ls hl
  have hx := hC.1.1
  have hb := hC.1.2.1
  have hl : lv_has ls 3 [(0, .ref (ad 0)), (1, .int x1)] := hl
  have w_2 : ∀ (x1 : Int32) (n : Nat) (x2 : Int32) (τ : Sto) (H : Heap) (locs : List Loc) (ls : Array Slot), T_daysGo_2 K x1 n x2 τ → tI D dA ad sz s.heap τ H locs → lv_has ls 3 [(0, .ref (ad 0)), (1, .int x1), (2, .int x2)] → W p l e ({ frames := 8, cells := 0, slots := 0, locals := 180 }) s m args below meth c H locs 0 0 Q (F0 m 2 ls []) := by
    intro x1 n
    induction n with
    | zero => intro x2 τ H locs ls hT; exact hT.elim
    | succ n ih =>
      intro x2 τ H locs ls hT hI hl
      unfold T_daysGo_2 at hT
      refine lv_iload_n hx hb dX6_daysGo_2 rfl (lv_at hl 2 rfl) ?_
      refine lv_iload_n hx hb dX6_daysGo_3 rfl (lv_at hl 1 rfl) ?_
      refine lv_icmp_ge (tgt := 17) hx hb dX6_daysGo_4 (by decide) (fun hc => ?_) (fun hc => ?_)
      · have hT := hT.1 hc
        exact hret _ _ _ _ _ hT hI dX6_daysGo_17
      · have hT := hT.2 hc
        refine lv_aload_n hx hb dX6_daysGo_7 rfl (lv_at hl 0 rfl) ?_
        refine tc_dayGoes hC hI hT ⟨Nat.le_of_ble_eq_true rfl, Nat.le_of_ble_eq_true rfl⟩ ⟨Nat.zero_le _, Nat.zero_le _⟩ hl.1 (Nat.le_of_ble_eq_true rfl) dX6_daysGo_8 (fun τ1 H locs hT hI => ?_)
        refine lv_iinc (v := x2 + 1) (lv' := [(2, .int (x2 + 1)), (0, .ref (ad 0)), (1, .int x1)]) hx hb dX6_daysGo_11 hl (k := 2) rfl rfl (Nat.le_of_ble_eq_true rfl) rfl (fun ls hl => ?_)
        refine lv_goto (tgt := 2) hx hb dX6_daysGo_14 (by decide) ?_
        exact ih (x2 + 1) τ1 _ _ _ hT hI (lv_sub hl [1, 2, 0] rfl)
  unfold T_daysGo at hT
  refine lv_iconst (v := 0) hx hb dX6_daysGo_0 (by decide) ?_
  refine lv_istore_n (lv' := [(2, .int 0), (0, .ref (ad 0)), (1, .int x1)]) hx hb dX6_daysGo_1 rfl hl (Nat.le_of_ble_eq_true rfl) rfl (fun ls hl => ?_)
  obtain ⟨n2, hT⟩ := hT
  exact w_2 x1 n2 0 τ _ _ _ hT hI (lv_sub hl [1, 2, 0] rfl)
theorem tc_daysGo {p : Program} {l : Launch} {e : Env} {R : Room} {s : State} {m : MethodId} {args : Array Value} {below : List Frame} {meth : Method} {c : Code} {H : Heap} {locs : List Loc} {cells slots : Nat} {Q : State → Prop} {cc : ByteArray} {nL : Nat} {D : va_G} {dA : Nat → ClassId} {ad : Nat → Nat} {τ : Sto} {pc sz : Nat} {ls : Array Slot} {rest : List Value} {H0 : Heap} {x1 : Int32} {K : Sto → Prop} (hC : tC p m c cc nL s args D dA ad) (hI : tI D dA ad sz H0 τ H locs) (hT : T_daysGo τ x1 K) (hR : 8 + 1 ≤ R.frames ∧ 8 + (3 + 11) + 180 ≤ R.locals) (hf : cells ≤ R.cells ∧ slots ≤ R.slots) (hsz : ls.size = nL) (hroom : (rest.map fun v => v.category).sum ≤ 8) (hdg : decode cc pc = .ok (.invokevirtual 518, 3)) (kk : ∀ (τ1 : Sto) (H1 : Heap) (locs1 : List Loc), K τ1 → tI D dA ad sz H0 τ1 H1 locs1 → W p l e R s m args below meth c H1 locs1 cells slots Q (F0 m (pc + 3) ls (rest))) : W p l e R s m args below meth c H locs cells slots Q (F0 m pc ls (.int x1 :: .ref (ad 0) :: rest)) :=
  rg_callv (rg_runV hC.1 hC.2.1 hI.1 hI.2.1 tl_0 rfl (met_daysGo l D dA ad hC.2.2 sz τ x1 K hT) (lw_V q2355 q2357 qs127 q170 q2358) 1 (by decide +kernel) ⟨rfl, rfl⟩ hR rfl hsz rfl hroom hf hdg) hI.2.2 (fun τ1 H1 l1 hk hz hP hS => kk τ1 H1 l1 hk ⟨hP, hz, hS⟩)
set_option maxHeartbeats 4000000 in
set_option maxRecDepth 100000 in
theorem met_takesBack (l : Launch) (D : va_G) (dA : Nat → ClassId) (ad : Nat → Nat) (hJ : rgJ twL ad) (sz : Nat) (τ : Sto) (K : Sto → Prop) (hT : T_takesBack τ K) : Met l yX6_takesBack (ws_ yX6_takesBack cX6_takesBack 2 (none)) ({ frames := 1, cells := 0, slots := 0, locals := 12 }) (va_Pc [.ref (ad 0)] (rgU D vwCl dA twL ad sz τ)) (va_Qv K (rgU D vwCl dA twL ad sz) (rgAd twL ad)) 0 0 (rgAd twL ad) := by
  refine tw_metv hJ (by decide) rfl (Nat.le_of_ble_eq_true rfl) ?_
  intro p e s m args below meth c Q hC hret hI ls hl
  have hx := hC.1.1
  have hb := hC.1.2.1
  have hl : lv_has ls 2 [(0, .ref (ad 0))] := hl
  have w_2 : ∀ (n : Nat) (x1 : Int32) (τ : Sto) (H : Heap) (locs : List Loc) (ls : Array Slot), T_takesBack_2 K n x1 τ → tI D dA ad sz s.heap τ H locs → lv_has ls 2 [(0, .ref (ad 0)), (1, .int x1)] → W p l e ({ frames := 1, cells := 0, slots := 0, locals := 12 }) s m args below meth c H locs 0 0 Q (F0 m 2 ls []) := by
    intro n
    induction n with
    | zero => intro x1 τ H locs ls hT; exact hT.elim
    | succ n ih =>
      intro x1 τ H locs ls hT hI hl
      unfold T_takesBack_2 at hT
      refine lv_iload_n hx hb dX6_takesBack_2 rfl (lv_at hl 1 rfl) ?_
      refine lv_bipush (v := 41) hx hb dX6_takesBack_3 (by decide) ?_
      refine lv_icmp_ge (tgt := 26) hx hb dX6_takesBack_5 (by decide) (fun hc => ?_) (fun hc => ?_)
      · have hT := hT.1 hc
        refine lv_aload_n hx hb dX6_takesBack_26 rfl (lv_at hl 0 rfl) ?_
        refine lv_iconst (v := 0) hx hb dX6_takesBack_27 (by decide) ?_
        refine tp_57 hC hI (by decide) hT dX6_takesBack_28 (fun τ1 H locs hT hI => ?_)
        exact hret _ _ _ _ _ hT hI dX6_takesBack_31
      · have hT := hT.2 hc
        refine lv_aload_n hx hb dX6_takesBack_8 rfl (lv_at hl 0 rfl) ?_
        refine tg_51 hC hI dX6_takesBack_9 ?_
        refine lv_iload_n hx hb dX6_takesBack_12 rfl (lv_at hl 1 rfl) ?_
        refine lv_aload_n hx hb dX6_takesBack_13 rfl (lv_at hl 0 rfl) ?_
        refine tg_52 hC hI dX6_takesBack_14 ?_
        refine lv_iload_n hx hb dX6_takesBack_17 rfl (lv_at hl 1 rfl) ?_
        refine tw_iald hC hI tl_53 hT dX6_takesBack_18 (fun hT => ?_)
        refine tw_iast hC hI tl_52 hT dX6_takesBack_19 (fun τ2 H locs hT hI => ?_)
        refine lv_iinc (v := x1 + 1) (lv' := [(1, .int (x1 + 1)), (0, .ref (ad 0))]) hx hb dX6_takesBack_20 hl (k := 1) rfl rfl (Nat.le_of_ble_eq_true rfl) rfl (fun ls hl => ?_)
        refine lv_goto (tgt := 2) hx hb dX6_takesBack_23 (by decide) ?_
        exact ih (x1 + 1) τ2 _ _ _ hT hI (lv_sub hl [1, 0] rfl)
  unfold T_takesBack at hT
  refine lv_iconst (v := 0) hx hb dX6_takesBack_0 (by decide) ?_
  refine lv_istore_n (lv' := [(1, .int 0), (0, .ref (ad 0))]) hx hb dX6_takesBack_1 rfl hl (Nat.le_of_ble_eq_true rfl) rfl (fun ls hl => ?_)
  obtain ⟨n2, hT⟩ := hT
  exact w_2 n2 0 τ _ _ _ hT hI (lv_sub hl [1, 0] rfl)
theorem tc_takesBack {p : Program} {l : Launch} {e : Env} {R : Room} {s : State} {m : MethodId} {args : Array Value} {below : List Frame} {meth : Method} {c : Code} {H : Heap} {locs : List Loc} {cells slots : Nat} {Q : State → Prop} {cc : ByteArray} {nL : Nat} {D : va_G} {dA : Nat → ClassId} {ad : Nat → Nat} {τ : Sto} {pc sz : Nat} {ls : Array Slot} {rest : List Value} {H0 : Heap} {K : Sto → Prop} (hC : tC p m c cc nL s args D dA ad) (hI : tI D dA ad sz H0 τ H locs) (hT : T_takesBack τ K) (hR : 1 + 1 ≤ R.frames ∧ 8 + (2 + 11) + 12 ≤ R.locals) (hf : cells ≤ R.cells ∧ slots ≤ R.slots) (hsz : ls.size = nL) (hroom : (rest.map fun v => v.category).sum ≤ 8) (hdg : decode cc pc = .ok (.invokevirtual 521, 3)) (kk : ∀ (τ1 : Sto) (H1 : Heap) (locs1 : List Loc), K τ1 → tI D dA ad sz H0 τ1 H1 locs1 → W p l e R s m args below meth c H1 locs1 cells slots Q (F0 m (pc + 3) ls (rest))) : W p l e R s m args below meth c H locs cells slots Q (F0 m pc ls (.ref (ad 0) :: rest)) :=
  rg_callv (rg_runV hC.1 hC.2.1 hI.1 hI.2.1 tl_0 rfl (met_takesBack l D dA ad hC.2.2 sz τ K hT) (lw_V q2391 q2393 qs136 q170 q2394) 0 (by decide +kernel) ⟨rfl, rfl⟩ hR rfl hsz rfl hroom hf hdg) hI.2.2 (fun τ1 H1 l1 hk hz hP hS => kk τ1 H1 l1 hk ⟨hP, hz, hS⟩)
set_option maxHeartbeats 4000000 in
set_option maxRecDepth 100000 in
theorem met_later (l : Launch) (D : va_G) (dA : Nat → ClassId) (ad : Nat → Nat) (hJ : rgJ twL ad) (sz : Nat) (τ : Sto) (x1 : Int32) (x2 : Int32) (K : Int32 → Sto → Prop) (hT : T_later τ x1 x2 K) : Met l yX6_later (ws_ yX6_later cX6_later 4 (some .int)) ({ frames := 9, cells := 0, slots := 0, locals := 202 }) (va_Pc [.ref (ad 0), .int x1, .int x2] (rgU D vwCl dA twL ad sz τ)) (va_Qi K (rgU D vwCl dA twL ad sz) (rgAd twL ad)) 0 0 (rgAd twL ad) := by
  refine tw_meti hJ (by decide) rfl (Nat.le_of_ble_eq_true rfl) ?_
  intro p e s m args below meth c Q hC hret hI ls hl
  have hx := hC.1.1
  have hb := hC.1.2.1
  have hl : lv_has ls 4 [(0, .ref (ad 0)), (1, .int x1), (2, .int x2)] := hl
  unfold T_later at hT
  refine lv_aload_n hx hb dX6_later_0 rfl (lv_at hl 0 rfl) ?_
  refine lv_iload_n hx hb dX6_later_1 rfl (lv_at hl 1 rfl) ?_
  refine lv_iconst (v := 0) hx hb dX6_later_2 (by decide) ?_
  refine lv_bipush (v := 60) hx hb dX6_later_3 (by decide) ?_
  refine tc_isAhead hC hI hT ⟨Nat.le_of_ble_eq_true rfl, Nat.le_of_ble_eq_true rfl⟩ ⟨Nat.zero_le _, Nat.zero_le _⟩ hl.1 (Nat.le_of_ble_eq_true rfl) dX6_later_5 (fun r2 τ1 H locs hT hI => ?_)
  refine lv_if_eq (tgt := 23) hx hb dX6_later_8 (by decide) (fun hc => ?_) (fun hc => ?_)
  · have hT := hT.1 hc
    refine lv_iconst (v := -1) hx hb dX6_later_23 (by decide) ?_
    exact hret _ _ _ _ _ _ hT hI dX6_later_24
  · have hT := hT.2 hc
    refine lv_iload_n hx hb dX6_later_11 rfl (lv_at hl 2 rfl) ?_
    refine lv_i2l hx hb dX6_later_12 rfl ?_
    refine lv_lconst (v := 0) hx hb dX6_later_13 (by decide) ?_
    refine lv_ldc2 hx hb hC.1.2.2.2.1 (hC.1.2.2.2.2 _ q2296) dX6_later_14 ?_
    refine tc_isIn hC hI hT ⟨Nat.le_of_ble_eq_true rfl, Nat.le_of_ble_eq_true rfl⟩ ⟨Nat.zero_le _, Nat.zero_le _⟩ hl.1 (Nat.le_of_ble_eq_true rfl) dX6_later_17 (fun r4 τ3 H locs hT hI => ?_)
    refine lv_if_ne (tgt := 25) hx hb dX6_later_20 (by decide) (fun hc => ?_) (fun hc => ?_)
    · have hT := hT.1 hc
      refine lv_aload_n hx hb dX6_later_25 rfl (lv_at hl 0 rfl) ?_
      refine tc_putsAside hC hI hT ⟨Nat.le_of_ble_eq_true rfl, Nat.le_of_ble_eq_true rfl⟩ ⟨Nat.zero_le _, Nat.zero_le _⟩ hl.1 (Nat.le_of_ble_eq_true rfl) dX6_later_26 (fun τ5 H locs hT hI => ?_)
      refine lv_aload_n hx hb dX6_later_29 rfl (lv_at hl 0 rfl) ?_
      refine lv_iload_n hx hb dX6_later_30 rfl (lv_at hl 1 rfl) ?_
      refine tc_daysGo hC hI hT ⟨Nat.le_of_ble_eq_true rfl, Nat.le_of_ble_eq_true rfl⟩ ⟨Nat.zero_le _, Nat.zero_le _⟩ hl.1 (Nat.le_of_ble_eq_true rfl) dX6_later_31 (fun τ6 H locs hT hI => ?_)
      refine lv_iload_n hx hb dX6_later_34 rfl (lv_at hl 2 rfl) ?_
      refine lv_if_ne (tgt := 45) hx hb dX6_later_35 (by decide) (fun hc => ?_) (fun hc => ?_)
      · have hT := hT.1 hc
        refine lv_iload_n hx hb dX6_later_45 rfl (lv_at hl 2 rfl) ?_
        refine lv_iconst (v := 1) hx hb dX6_later_46 (by decide) ?_
        refine lv_icmp_ne (tgt := 58) hx hb dX6_later_47 (by decide) (fun hc => ?_) (fun hc => ?_)
        · have hT := hT.1 hc
          refine lv_iload_n hx hb dX6_later_58 rfl (lv_at hl 2 rfl) ?_
          refine lv_iconst (v := 2) hx hb dX6_later_59 (by decide) ?_
          refine lv_icmp_ne (tgt := 74) hx hb dX6_later_60 (by decide) (fun hc => ?_) (fun hc => ?_)
          · have hT := hT.1 hc
            refine lv_aload_n hx hb dX6_later_74 rfl (lv_at hl 0 rfl) ?_
            refine tg_58 hC hI dX6_later_75 ?_
            refine lv_istore_n (lv' := [(3, .int (τ6.1 0 58)), (0, .ref (ad 0)), (1, .int x1), (2, .int x2)]) hx hb dX6_later_78 rfl hl (Nat.le_of_ble_eq_true rfl) rfl (fun ls hl => ?_)
            refine lv_aload_n hx hb dX6_later_79 rfl (lv_at hl 1 rfl) ?_
            refine tc_takesBack hC hI hT ⟨Nat.le_of_ble_eq_true rfl, Nat.le_of_ble_eq_true rfl⟩ ⟨Nat.zero_le _, Nat.zero_le _⟩ hl.1 (Nat.le_of_ble_eq_true rfl) dX6_later_80 (fun τ7 H locs hT hI => ?_)
            refine lv_iload_n hx hb dX6_later_83 rfl (lv_at hl 0 rfl) ?_
            exact hret _ _ _ _ _ _ hT hI dX6_later_84
          · have hT := hT.2 hc
            refine lv_aload_n hx hb dX6_later_63 rfl (lv_at hl 0 rfl) ?_
            refine lv_aload_n hx hb dX6_later_64 rfl (lv_at hl 0 rfl) ?_
            refine tc_standSet hC hI hT ⟨Nat.le_of_ble_eq_true rfl, Nat.le_of_ble_eq_true rfl⟩ ⟨Nat.zero_le _, Nat.zero_le _⟩ hl.1 (Nat.le_of_ble_eq_true rfl) dX6_later_65 (fun r9 τ8 H locs hT hI => ?_)
            refine tc_useBy hC hI hT ⟨Nat.le_of_ble_eq_true rfl, Nat.le_of_ble_eq_true rfl⟩ ⟨Nat.zero_le _, Nat.zero_le _⟩ hl.1 (Nat.le_of_ble_eq_true rfl) dX6_later_68 (fun r11 τ10 H locs hT hI => ?_)
            refine lv_goto (tgt := 78) hx hb dX6_later_71 (by decide) ?_
            refine lv_istore_n (lv' := [(3, .int r11), (0, .ref (ad 0)), (1, .int x1), (2, .int x2)]) hx hb dX6_later_78 rfl hl (Nat.le_of_ble_eq_true rfl) rfl (fun ls hl => ?_)
            refine lv_aload_n hx hb dX6_later_79 rfl (lv_at hl 1 rfl) ?_
            refine tc_takesBack hC hI hT ⟨Nat.le_of_ble_eq_true rfl, Nat.le_of_ble_eq_true rfl⟩ ⟨Nat.zero_le _, Nat.zero_le _⟩ hl.1 (Nat.le_of_ble_eq_true rfl) dX6_later_80 (fun τ12 H locs hT hI => ?_)
            refine lv_iload_n hx hb dX6_later_83 rfl (lv_at hl 0 rfl) ?_
            exact hret _ _ _ _ _ _ hT hI dX6_later_84
        · have hT := hT.2 hc
          refine lv_aload_n hx hb dX6_later_50 rfl (lv_at hl 0 rfl) ?_
          refine lv_iconst (v := 1) hx hb dX6_later_51 (by decide) ?_
          refine tc_setOf hC hI hT ⟨Nat.le_of_ble_eq_true rfl, Nat.le_of_ble_eq_true rfl⟩ ⟨Nat.zero_le _, Nat.zero_le _⟩ hl.1 (Nat.le_of_ble_eq_true rfl) dX6_later_52 (fun r14 τ13 H locs hT hI => ?_)
          refine lv_goto (tgt := 78) hx hb dX6_later_55 (by decide) ?_
          refine lv_istore_n (lv' := [(3, .int r14), (0, .ref (ad 0)), (1, .int x1), (2, .int x2)]) hx hb dX6_later_78 rfl hl (Nat.le_of_ble_eq_true rfl) rfl (fun ls hl => ?_)
          refine lv_aload_n hx hb dX6_later_79 rfl (lv_at hl 1 rfl) ?_
          refine tc_takesBack hC hI hT ⟨Nat.le_of_ble_eq_true rfl, Nat.le_of_ble_eq_true rfl⟩ ⟨Nat.zero_le _, Nat.zero_le _⟩ hl.1 (Nat.le_of_ble_eq_true rfl) dX6_later_80 (fun τ15 H locs hT hI => ?_)
          refine lv_iload_n hx hb dX6_later_83 rfl (lv_at hl 0 rfl) ?_
          exact hret _ _ _ _ _ _ hT hI dX6_later_84
      · have hT := hT.2 hc
        refine lv_aload_n hx hb dX6_later_38 rfl (lv_at hl 0 rfl) ?_
        refine tc_standSet hC hI hT ⟨Nat.le_of_ble_eq_true rfl, Nat.le_of_ble_eq_true rfl⟩ ⟨Nat.zero_le _, Nat.zero_le _⟩ hl.1 (Nat.le_of_ble_eq_true rfl) dX6_later_39 (fun r17 τ16 H locs hT hI => ?_)
        refine lv_goto (tgt := 78) hx hb dX6_later_42 (by decide) ?_
        refine lv_istore_n (lv' := [(3, .int r17), (0, .ref (ad 0)), (1, .int x1), (2, .int x2)]) hx hb dX6_later_78 rfl hl (Nat.le_of_ble_eq_true rfl) rfl (fun ls hl => ?_)
        refine lv_aload_n hx hb dX6_later_79 rfl (lv_at hl 1 rfl) ?_
        refine tc_takesBack hC hI hT ⟨Nat.le_of_ble_eq_true rfl, Nat.le_of_ble_eq_true rfl⟩ ⟨Nat.zero_le _, Nat.zero_le _⟩ hl.1 (Nat.le_of_ble_eq_true rfl) dX6_later_80 (fun τ18 H locs hT hI => ?_)
        refine lv_iload_n hx hb dX6_later_83 rfl (lv_at hl 0 rfl) ?_
        exact hret _ _ _ _ _ _ hT hI dX6_later_84
    · have hT := hT.2 hc
      refine lv_iconst (v := -1) hx hb dX6_later_23 (by decide) ?_
      exact hret _ _ _ _ _ _ hT hI dX6_later_24
