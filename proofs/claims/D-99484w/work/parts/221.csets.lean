/-! COMPONENT, PURE SIDE: sets of things, sums over them. -/
def bcJ (x0 : Int32) : Int32 :=
  let y1 := x0 - (((x0.toUInt32 >>> (Int32.toUInt32 1 &&& Int32.toUInt32 31)).toInt32) &&& 1431655765)
  let y3 := (y1 &&& 858993459) + (((y1.toUInt32 >>> (Int32.toUInt32 2 &&& Int32.toUInt32 31)).toInt32) &&& 858993459)
  let y5 := (y3 + ((y3.toUInt32 >>> (Int32.toUInt32 4 &&& Int32.toUInt32 31)).toInt32)) &&& 252645135
  let y7 := y5 + ((y5.toUInt32 >>> (Int32.toUInt32 8 &&& Int32.toUInt32 31)).toInt32)
  let y9 := y7 + ((y7.toUInt32 >>> (Int32.toUInt32 16 &&& Int32.toUInt32 31)).toInt32)
  y9 &&& 63
theorem bcJ_I : ∀ v, v < 256 → bcJ (nI v) = nI (bcN v) := by decide +kernel
section CSt
variable {σ0 σ σ' σ'' : CS} {i j k n q ob t m tk c v : Nat} {P Q : Nat → Prop} {I : Isl} {fl : Int32 × Int32} {s : Nat → Nat}
theorem cb_bits {K : Int32 → CS → Prop} (hv : v < 256) (hk : K (nI (bcN v)) σ) : U_J16_bitCount σ (nI v) K := by
  refine st_ (st_ (st_ (st_ (st_ ?_))))
  show K (bcJ (nI v)) σ
  rw [bcJ_I v hv]; exact hk
theorem cb_hasS {K : Int32 → CS → Prop} (hv : v < 256) (ht : t < 8) (hk : K (b1 (v.testBit t)) σ) : U_X0_has σ (nI v) (nI t) K := by
  unfold U_X0_has
  rw [has_I v hv t ht]
  cases e : v.testBit t with
  | true => rw [e] at hk; exact bn_f rfl hk
  | false => rw [e] at hk; exact bn_t (by decide) hk
theorem or_0 (x : Int32) : x ||| 0 = x := Int32.or_zero
theorem setN_s (p : Nat → Bool) (i : Nat) : setN p (i + 1) = setN p i + (if p i then 2 ^ i else 0) := rfl
theorem cb_are {K : Int32 → CS → Prop} {x : Nat} {x1 : Int32} (e1 : x1 = nI x) (hx : x < 100) (h : EvB σ ob I fl s) (hb : bdS s) (hk : K (nI (setN (fun t => decide (s (1 + 5 * t) = x)) (iC I 0))) σ) : U_X5_are σ ob x1 K := by
  subst e1
  have h8 := h.2.1.1
  have lp : ∀ (d f i : Nat), iC I 0 - i = d → d < f → i ≤ iC I 0 → U_X5_are_4 K ob (nI x) f (nI (setN (fun t => decide (s (1 + 5 * t) = x)) i)) (nI i) σ := by
    intro d
    induction d with
    | zero =>
      intro f i hd hf hi
      obtain ⟨f, rfl⟩ : ∃ f', f = f' + 1 := ⟨f - 1, by omega⟩
      obtain rfl : i = iC I 0 := by omega
      unfold U_X5_are_4
      exact cb_things h.1 (br_t (nI_le (Nat.le_refl _) (by omega)) hk)
    | succ d ih =>
      intro f i hd hf hi
      obtain ⟨f, rfl⟩ : ∃ f', f = f' + 1 := ⟨f - 1, by omega⟩
      obtain ⟨s1, -⟩ := h.2.2.2.1.2 i (by omega)
      have b1' := hb.2.1 (1 + 5 * i) (by omega) (by omega)
      unfold U_X5_are_4
      refine cb_things h.1 (br_f (nI_ge (by omega) (by omega)) ⟨vi_ (by omega) (by omega), ?_⟩)
      rw [nI_clamp (by omega), s1, nI_1]
      have hn := ih f (i + 1) (by omega) (by omega) (by omega)
      rw [setN_s] at hn
      by_cases e : s (1 + 5 * i) = x
      · refine bn_f (by rw [e]) ?_
        rw [decide_eq_true e, if_pos rfl] at hn
        rw [or_I i (by omega) _ (setN_lt _ i)]
        exact hn
      · refine bn_t (fun z => e ((nI_eq (by omega) (by omega)).mp z)) ?_
        rw [decide_eq_false e, if_neg (by decide), Nat.add_zero] at hn
        rw [or_0]; exact hn
  exact ⟨iC I 0 + 1, lp _ _ 0 rfl (by omega) (by omega)⟩
theorem cb_forged {K : Int32 → CS → Prop} (h : EvB σ ob I fl s) (hb : bdS s) (hk : K (nI (setN (fun t => decide (s (5 + 5 * t) = 1)) (iC I 0))) σ) : U_X5_forged σ ob K := by
  have h8 := h.2.1.1
  have lp : ∀ (d f i : Nat), iC I 0 - i = d → d < f → i ≤ iC I 0 → U_X5_forged_4 K ob f (nI (setN (fun t => decide (s (5 + 5 * t) = 1)) i)) (nI i) σ := by
    intro d
    induction d with
    | zero =>
      intro f i hd hf hi
      obtain ⟨f, rfl⟩ : ∃ f', f = f' + 1 := ⟨f - 1, by omega⟩
      obtain rfl : i = iC I 0 := by omega
      unfold U_X5_forged_4
      exact cb_things h.1 (br_t (nI_le (Nat.le_refl _) (by omega)) hk)
    | succ d ih =>
      intro f i hd hf hi
      obtain ⟨f, rfl⟩ : ∃ f', f = f' + 1 := ⟨f - 1, by omega⟩
      obtain ⟨-, -, -, -, s5⟩ := h.2.2.2.1.2 i (by omega)
      have b5' := hb.2.2 i (by omega)
      unfold U_X5_forged_4
      refine cb_things h.1 (br_f (nI_ge (by omega) (by omega)) ⟨vi_ (by omega) (by omega), ?_⟩)
      rw [nI_clamp (by omega), s5, nI_1]
      have hn := ih f (i + 1) (by omega) (by omega) (by omega)
      rw [setN_s] at hn
      by_cases e : s (5 + 5 * i) = 1
      · refine br_f (by rw [e]; decide) ?_
        rw [decide_eq_true e, if_pos rfl] at hn
        rw [or_I i (by omega) _ (setN_lt _ i)]
        exact hn
      · refine br_t (by rw [show s (5 + 5 * i) = 0 by omega]; rfl) ?_
        rw [decide_eq_false e, if_neg (by decide), Nat.add_zero] at hn
        rw [or_0]; exact hn
  exact ⟨iC I 0 + 1, lp _ _ 0 rfl (by omega) (by omega)⟩
theorem cb_standing {K : Int32 → CS → Prop} (h : EvB σ ob I fl s) (hb : bdS s) (hk : ∀ σ', FrX P12 σ σ' → K (nI (setN (spStands I fl s) (iC I 0))) σ') : U_X5_standing σ ob K := by
  have h8 := h.2.1.1
  have lp : ∀ (d f i : Nat) (σ1 : CS), iC I 0 - i = d → d < f → i ≤ iC I 0 → FrX P12 σ σ1 → U_X5_standing_4 K ob f (nI (setN (spStands I fl s) i)) (nI i) σ1 := by
    intro d
    induction d with
    | zero =>
      intro f i σ1 hd hf hi f1
      obtain ⟨f, rfl⟩ : ∃ f', f = f' + 1 := ⟨f - 1, by omega⟩
      obtain rfl : i = iC I 0 := by omega
      unfold U_X5_standing_4
      exact cb_things (h.fr f1).1 (br_t (nI_le (Nat.le_refl _) (by omega)) (hk σ1 f1))
    | succ d ih =>
      intro f i σ1 hd hf hi f1
      obtain ⟨f, rfl⟩ : ∃ f', f = f' + 1 := ⟨f - 1, by omega⟩
      unfold U_X5_standing_4
      refine cb_things (h.fr f1).1 (br_f (nI_ge (by omega) (by omega)) (cb_stands (h.fr f1) (by omega) hb fun σ2 f2 => ?_))
      have hn := ih f (i + 1) σ2 (by omega) (by omega) (by omega) (f1.trans f2)
      rw [setN_s] at hn
      rw [nI_1]
      cases e : spStands I fl s i with
      | true =>
        rw [e, if_pos rfl] at hn
        refine br_f (by decide) ?_
        rw [or_I i (by omega) _ (setN_lt _ i)]
        exact hn
      | false =>
        rw [e, if_neg (by decide), Nat.add_zero] at hn
        refine br_t rfl ?_
        rw [or_0]; exact hn
  exact ⟨iC I 0 + 1, lp _ _ 0 σ rfl (by omega) (by omega) (FrX.refl σ)⟩
theorem useS_s (I : Isl) (v i : Nat) : useS I v (i + 1) = useS I v i + (if v.testBit i then iX I (3 * i + 1) else 0) := rfl
theorem worS_s (I : Isl) (v i : Nat) : worS I v (i + 1) = worS I v i + (if v.testBit i then iX I (3 * i) else 0) := rfl
theorem cb_useOf {K : Int32 → CS → Prop} (h : IsR σ I) (hI : IbC I) (hv : v < 256) (hk : K (nI (useS I v (iC I 0))) σ) : U_X0_useOf σ (nI v) K := by
  have h8 := hI.1
  have lp : ∀ (d f i : Nat), iC I 0 - i = d → d < f → i ≤ iC I 0 → U_X0_useOf_4 K (nI v) f (nI (useS I v i)) (nI i) σ := by
    intro d
    induction d with
    | zero =>
      intro f i hd hf hi
      obtain ⟨f, rfl⟩ : ∃ f', f = f' + 1 := ⟨f - 1, by omega⟩
      obtain rfl : i = iC I 0 := by omega
      unfold U_X0_useOf_4
      exact cb_things h (br_t (nI_le (Nat.le_refl _) (by omega)) hk)
    | succ d ih =>
      intro f i hd hf hi
      obtain ⟨f, rfl⟩ : ∃ f', f = f' + 1 := ⟨f - 1, by omega⟩
      unfold U_X0_useOf_4
      refine cb_things h (br_f (nI_ge (by omega) (by omega)) (cb_hasS hv (by omega) ?_))
      have hn := ih f (i + 1) (by omega) (by omega) (by omega)
      rw [useS_s] at hn
      rw [nI_1]
      cases e : v.testBit i with
      | true =>
        rw [e, if_pos rfl] at hn
        refine br_f (by decide) (cb_thingOf h (by omega) fun r r1 r2 r3 r4 => ⟨r, rfl, r1, ?_⟩)
        rw [r3, nI_add]; exact hn
      | false =>
        rw [e, if_neg (by decide)] at hn
        refine br_t rfl ?_
        rw [show nI (useS I v i) + 0 = nI (useS I v i + 0) from nI_add _ 0]; exact hn
  exact ⟨iC I 0 + 1, lp _ _ 0 rfl (by omega) (by omega)⟩
theorem cb_worthOf {K : Int32 → CS → Prop} (h : IsR σ I) (hI : IbC I) (hv : v < 256) (hk : K (nI (worS I v (iC I 0))) σ) : U_X0_worthOf σ (nI v) K := by
  have h8 := hI.1
  have lp : ∀ (d f i : Nat), iC I 0 - i = d → d < f → i ≤ iC I 0 → U_X0_worthOf_4 K (nI v) f (nI (worS I v i)) (nI i) σ := by
    intro d
    induction d with
    | zero =>
      intro f i hd hf hi
      obtain ⟨f, rfl⟩ : ∃ f', f = f' + 1 := ⟨f - 1, by omega⟩
      obtain rfl : i = iC I 0 := by omega
      unfold U_X0_worthOf_4
      exact cb_things h (br_t (nI_le (Nat.le_refl _) (by omega)) hk)
    | succ d ih =>
      intro f i hd hf hi
      obtain ⟨f, rfl⟩ : ∃ f', f = f' + 1 := ⟨f - 1, by omega⟩
      unfold U_X0_worthOf_4
      refine cb_things h (br_f (nI_ge (by omega) (by omega)) (cb_hasS hv (by omega) ?_))
      have hn := ih f (i + 1) (by omega) (by omega) (by omega)
      rw [worS_s] at hn
      rw [nI_1]
      cases e : v.testBit i with
      | true =>
        rw [e, if_pos rfl] at hn
        refine br_f (by decide) (cb_thingOf h (by omega) fun r r1 r2 r3 r4 => ⟨r, rfl, r1, ?_⟩)
        rw [r2, nI_add]; exact hn
      | false =>
        rw [e, if_neg (by decide)] at hn
        refine br_t rfl ?_
        rw [show nI (worS I v i) + 0 = nI (worS I v i + 0) from nI_add _ 0]; exact hn
  exact ⟨iC I 0 + 1, lp _ _ 0 rfl (by omega) (by omega)⟩
end CSt
