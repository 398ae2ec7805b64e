/-! PURE SIDE: gain, house, lawed; the model's. -/
def sp_gain (a : AS) (x y : Int32) : Int64 := if isTh a x && (isMe a y && decide ((aS a).1 (1 + 5 * ix x) = 1)) then
    (nI (useS (aI a) (stS a (spMend (aI a) (-1, 0) (aS a) (ix x) (ix y)).1) (iC (aI a) 0)) - nI (useS (aI a) (stS a (aS a).1) (iC (aI a) 0))).toInt64 else -1000000000000000
/-- some are struck and mended by the first -/
def spStr (I : Isl) (v n : Nat) (s : St) : St := lpN (fun t s => if v.testBit t then spMend I (-1, 0) (spBreak s t) t 0 else s) n s
def spLess (I : Isl) (v b : Nat) : Bool := if worS I v (iC I 0) = worS I b (iC I 0) then decide (bcN v < bcN b) else decide (worS I v (iC I 0) < worS I b (iC I 0))
def hoS (a : AS) (use v : Nat) (b : Option Nat) : Option Nat := if v &&& areN a 1 = 0 ∧ (b = none ∨ spLess (aI a) v (b.getD 0) = true) ∧ use ≤ useS (aI a) (stS a (spStr (aI a) v (iC (aI a) 0) (aS a)).1) (iC (aI a) 0) then some v else b
def spHo (a : AS) (use : Nat) (n : Nat) : Option Nat := lpN (hoS a use) n none
def sp_house (a : AS) (x y : Int32) : Int32 := if decide (iC (aI a) 1 ≠ 0) && (inR x 0 999 && inR y 0 1) then (match spHo a (ix x) (2 ^ iC (aI a) 0) with
    | none => -1
    | some b => if y = 0 then nI b else nI (worS (aI a) b (iC (aI a) 0))) else -1
def lwN (a : AS) (x : Int32) : Nat := if x = 0 then stn a else setN (fun t => decide ((aS a).1 (1 + 5 * t) = 2) && (decide (x = 1) || decide (1 < (aS a).1 (3 + 5 * t)))) (iC (aI a) 0)
def sp_lawed (a : AS) (x y : Int32) : Int32 := if inR x 0 2 && inR y 0 1 then (if y = 0 then nI (useS (aI a) (lwN a x) (iC (aI a) 0)) else nI (lwN a x) ^^^ nI (stn a)) else -1
section THo
variable {a : AS} {τ τ' : Sto} {K : Int32 → Sto → Prop} {s s' : St}
theorem T_gain_law {K : Int64 → Sto → Prop} {x y : Int32} (h : RT a τ) (hk : ∀ τ', RT a τ' → K (sp_gain a x y) τ') : T_gain τ x y K := by
  have hc := h.ev.c
  unfold sp_gain isTh isMe at hk
  refine T_isThing_law h ?_
  cases e : inR x 0 ((iC (aI a) 0 : Int) - 1) with
  | false => rw [e] at hk; exact br_t rfl (hk τ h)
  | true =>
    rw [e, Bool.true_and] at hk
    obtain ⟨q1, q2⟩ := inR_ix e (by omega)
    refine br_f (by decide) (T_isMender_law h ?_)
    cases e2 : inR y 0 ((iC (aI a) 1 : Int) - 1) with
    | false => rw [e2] at hk; exact br_t rfl (hk τ h)
    | true =>
      rw [e2, Bool.true_and] at hk
      obtain ⟨p1, p2⟩ := inR_ix e2 (by omega)
      refine br_f (by decide) ?_
      generalize ix x = t at q1 q2 hk
      generalize ix y = m at p1 p2 hk
      subst q1 p1
      refine T_isBroken_law h.ev (by omega) ?_
      by_cases c : (aS a).1 (1 + 5 * t) = 1
      · rw [decide_eq_true c, if_pos rfl] at hk
        rw [decide_eq_true c]
        refine bn_t (by decide) (T_standSet_law h.ev fun τ1 f1 => T_useBy_law (h.ev.fr_ f1) (setN_256 _ hc.1) (T_putsAside_law (h.frE f1) fun τ2 h2 _ => T_isMending_law h2.2.1 q2 p2 fun τ3 d3 f3 _ => T_standSet_law d3.1 fun τ4 f4 => T_useBy_law (d3.1.fr_ f4) (setN_256 _ hc.1) (T_takesBack_law ((h2.go d3 (FrD.ofK f3)).frE f4) rfl hk)))
      · rw [decide_eq_false c, if_neg (by decide)] at hk
        rw [decide_eq_false c]
        exact bn_f rfl (hk τ h)
theorem spStr_w {I : Isl} (hI : IslOK I) (hm : 0 < iC I 1) {v : Nat} (h : StW s) : ∀ n, n ≤ 8 → StW (spStr I v n s)
  | 0, _ => h
  | n + 1, hn => by
    have ih := spStr_w hI hm (v := v) h n (by omega)
    show StW (if v.testBit n then spMend I (-1, 0) (spBreak (spStr I v n s) n) n 0 else spStr I v n s)
    split
    · exact (ih.brk (by omega)).mnd hI (by omega) hm
    · exact ih
theorem T_useStruck_law {v : Nat} (h : TH a (-1, 0) (aS a) τ) (hv : v < 256) (hm : 0 < iC (aI a) 1) (hk : ∀ τ', TH a (-1, 0) (aS a) τ' → K (nI (useS (aI a) (stS a (spStr (aI a) v (iC (aI a) 0) (aS a)).1) (iC (aI a) 0))) τ') : T_useStruck τ (nI v) K := by
  have hc := h.2.1.1.c
  refine ⟨iC (aI a) 0 + 1, ?_⟩
  have lp : ∀ (d f t : Nat) (τ' : Sto), iC (aI a) 0 - t = d → d < f → t ≤ iC (aI a) 0 → TH a (-1, 0) (spStr (aI a) v t (aS a)) τ' → T_useStruck_2 K (nI v) f (nI t) τ' := by
    intro d
    induction d with
    | zero =>
      intro f t τ' hd hf ht h1
      obtain ⟨f, rfl⟩ : ∃ f', f = f' + 1 := ⟨f - 1, by omega⟩
      obtain rfl : t = iC (aI a) 0 := by omega
      unfold T_useStruck_2
      exact T_thingMany_law h1.2.1.1 (br_t (nI_le (by omega) (by omega)) (T_standSet_law h1.2.1.1 fun τ2 f2 => T_useBy_law (h1.2.1.1.fr_ f2) (setN_256 _ hc.1) (T_triesAnew_law (h1.frE f2) fun τ3 h3 _ _ => hk τ3 h3)))
    | succ d ih =>
      intro f t τ' hd hf ht h1
      obtain ⟨f, rfl⟩ : ∃ f', f = f' + 1 := ⟨f - 1, by omega⟩
      unfold T_useStruck_2
      refine T_thingMany_law h1.2.1.1 (br_f (nI_ge (by omega) (by omega)) ?_)
      rw [nI_1, has_I0 v hv t (by omega)]
      have es : spStr (aI a) v (t + 1) (aS a) = if v.testBit t then spMend (aI a) (-1, 0) (spBreak (spStr (aI a) v t (aS a)) t) t 0 else spStr (aI a) v t (aS a) := rfl
      cases e : v.testBit t with
      | false =>
        rw [e, if_neg (by decide)] at es
        exact bn_f rfl (ih f (t + 1) τ' (by omega) (by omega) (by omega) (by rw [es]; exact h1))
      | true =>
        rw [e, if_pos rfl] at es
        refine bn_t (by decide) (T_isBreaking_law h1.2.1 (by omega) fun τ2 d2 f2 _ => T_isMending_law (m := 0) d2 (by omega) hm fun τ3 d3 f3 _ => ih f (t + 1) τ3 (by omega) (by omega) (by omega) ?_)
        rw [es]
        exact (h1.go d2 (FrD.ofK f2)).go d3 (FrD.ofK f3)
  exact lp (iC (aI a) 0) _ 0 τ rfl (by omega) (by omega) h
theorem T_isLess_law {I : Isl} {fr : Int32 × Int32} {s : Nat → Nat} {v b : Nat} (h : EvC I fr s τ) (hv : v < 256) (hb : b < 256) (hk : K (b1 (spLess I v b)) τ) : T_isLess τ (nI v) (nI b) K := by
  have hc := h.c
  have w1 := worS_le h.1 v (Nat.le_refl (iC I 0))
  have w2 := worS_le h.1 b (Nat.le_refl (iC I 0))
  have b1' := bcN_le v
  have b2' := bcN_le b
  unfold spLess at hk
  refine T_worthBy_law h hv (T_worthBy_law h hb ?_)
  by_cases c : worS I v (iC I 0) = worS I b (iC I 0)
  · rw [if_pos c] at hk
    refine br_t (by rw [c]) (T_bits_law hv (T_bits_law hb ?_))
    by_cases c2 : bcN v < bcN b
    · rw [decide_eq_true c2] at hk; exact br_f (nI_ge c2 (by omega)) hk
    · rw [decide_eq_false c2] at hk; exact br_t (nI_le (by omega) (by omega)) hk
  · rw [if_neg c] at hk
    refine br_f (fun z => c ((nI_eq (by omega) (by omega)).mp z)) ?_
    by_cases c2 : worS I v (iC I 0) < worS I b (iC I 0)
    · rw [decide_eq_true c2] at hk; exact br_f (nI_ge c2 (by omega)) hk
    · rw [decide_eq_false c2] at hk; exact br_t (nI_le (by omega) (by omega)) hk
theorem and_nI (v u : Nat) : nI v &&& nI u = nI (v &&& u) := by
  apply Int32.toBitVec_inj.1
  rw [Int32.toBitVec_and]
  show BitVec.ofNat 32 v &&& BitVec.ofNat 32 u = BitVec.ofNat 32 (v &&& u)
  exact (BitVec.ofNat_and).symm
theorem and_0 (v : Nat) (hv : v < 256) (u : Nat) (_ : u < 256) : nI v &&& nI u = 0 ↔ v &&& u = 0 := by
  have : v &&& u ≤ v := Nat.and_le_left
  rw [and_nI]
  exact nI_eq (b := 0) (by omega) (by omega)
theorem pow_I : ∀ n, n < 9 → (1 : Int32) <<< (nI n &&& 31) = nI (2 ^ n) := by decide +kernel
theorem hoS_lt {use : Nat} : ∀ n b, lpN (hoS a use) n none = some b → b < n
  | 0, b, h => by cases h
  | n + 1, b, h => by
    have ih := hoS_lt (use := use) n b
    have h : hoS a use n (lpN (hoS a use) n none) = some b := h
    unfold hoS at h
    split at h
    · cases h; omega
    · have := ih h; omega
theorem T_house_law {x y : Int32} (h : RT a τ) (hk : ∀ τ', RT a τ' → K (sp_house a x y) τ') : T_house τ x y K := by
  have hc := h.ev.c
  unfold sp_house at hk
  refine T_menderMany_law h.ev ?_
  by_cases hm : iC (aI a) 1 = 0
  · rw [decide_eq_false (by simpa using hm), Bool.false_and] at hk
    exact br_t (by rw [hm]; rfl) (hk τ h)
  rw [decide_eq_true (by simpa using hm), Bool.true_and] at hk
  refine br_f (nI_ne0 (by omega) (by omega)) (T_isInI (lo := 0) (hi := 999) rfl rfl ?_)
  cases e : inR x 0 999 with
  | false => rw [e] at hk; exact br_t rfl (hk τ h)
  | true =>
    rw [e, Bool.true_and] at hk
    obtain ⟨q1, q2⟩ := inR_ix (n := 1000) e (by omega)
    generalize ix x = use at q1 q2 hk
    subst q1
    refine br_f (by decide) (T_isInI (lo := 0) (hi := 1) rfl rfl ?_)
    cases e2 : inR y 0 1 with
    | false => rw [e2] at hk; exact bn_f rfl (hk τ h)
    | true =>
      rw [e2, if_pos rfl] at hk
      refine bn_t (by decide) (T_setOf_law (x := 1) rfl (by omega) h.ev (T_putsAside_law h fun τ1 h1 _ => ⟨2 ^ iC (aI a) 0 + 1, ?_⟩))
      have hp8 : 2 ^ iC (aI a) 0 ≤ 256 := Nat.pow_le_pow_right (n := 2) (by omega) hc.1
      have hbr : areN a 1 < 256 := setN_256 _ hc.1
      have lp : ∀ (d f v : Nat) (τ' : Sto), 2 ^ iC (aI a) 0 - v = d → d < f → v ≤ 2 ^ iC (aI a) 0 → TH a (-1, 0) (aS a) τ' → T_house_47 K (nI use) y (nI (areN a 1)) f (ixI (lpN (hoS a use) v none)) (nI v) τ' := by
        intro d
        induction d with
        | zero =>
          intro f v τ' hd hf hv hT
          obtain ⟨f, rfl⟩ : ∃ f', f = f' + 1 := ⟨f - 1, by omega⟩
          obtain rfl : v = 2 ^ iC (aI a) 0 := by omega
          unfold T_house_47
          refine T_thingMany_law hT.2.1.1 ?_
          rw [pow_I _ (by omega)]
          refine br_t (nI_le (Nat.le_refl _) (by omega)) (T_takesBack_law hT rfl fun τ2 h2 => ?_)
          have hkk := hk τ2 h2
          unfold spHo at hkk
          cases eb : lpN (hoS a use) (2 ^ iC (aI a) 0) none with
          | none => rw [eb] at hkk; exact bn_f rfl hkk
          | some b =>
            rw [eb] at hkk
            have hlt := hoS_lt _ b eb
            show ((¬ nI b = -1 → _) ∧ _)
            refine bn_t (fun z => nI_m1 (by omega) z.symm) ?_
            by_cases y0 : y = 0
            · simp only [y0, if_true] at hkk; exact bn_f y0 hkk
            · simp only [y0, if_false] at hkk
              exact bn_t y0 (T_worthBy_law h2.ev (by omega) hkk)
        | succ d ih =>
          intro f v τ' hd hf hv hT
          obtain ⟨f, rfl⟩ : ∃ f', f = f' + 1 := ⟨f - 1, by omega⟩
          have es : lpN (hoS a use) (v + 1) none = hoS a use v (lpN (hoS a use) v none) := rfl
          unfold T_house_47
          refine T_thingMany_law hT.2.1.1 ?_
          rw [pow_I _ (by omega), nI_1, and_0 v (by omega) _ hbr]
          refine br_f (nI_ge (by omega) (by omega)) ?_
          by_cases c1 : v &&& areN a 1 = 0
          · refine bn_f c1 ?_
            have go : ∀ τ2, TH a (-1, 0) (aS a) τ2 → ((lpN (hoS a use) v none) = none ∨ spLess (aI a) v ((lpN (hoS a use) v none).getD 0) = true) → T_house_85 K (T_house_47 K (nI use) y (nI (areN a 1)) f) (nI use) y (nI (areN a 1)) (ixI (lpN (hoS a use) v none)) (nI v) τ2 := by
              intro τ2 h2 hl
              have hu := useS_le h.ev.1 (stS a (spStr (aI a) v (iC (aI a) 0) (aS a)).1) (Nat.le_refl _)
              unfold T_house_85
              refine T_useStruck_law h2 (by omega) (by omega) fun τ3 h3 => ?_
              rw [nI_ltI (by omega) (by omega), nI_1]
              have hq := ih f (v + 1) τ3 (by omega) (by omega) (by omega) h3
              rw [es, hoS] at hq
              by_cases c2 : useS (aI a) (stS a (spStr (aI a) v (iC (aI a) 0) (aS a)).1) (iC (aI a) 0) < use
              · rw [if_neg (by omega)] at hq; exact br_t c2 hq
              · rw [if_pos ⟨c1, hl, by omega⟩] at hq; exact br_f c2 hq
            cases eb : lpN (hoS a use) v none with
            | none => rw [← eb]; exact br_t (by rw [eb]; rfl) (go τ' hT (Or.inl eb))
            | some b =>
              have hlt := hoS_lt _ b eb
              show ((nI b = -1 → _) ∧ _)
              refine br_f (fun z => nI_m1 (by omega) z.symm) (T_isLess_law hT.2.1.1 (by omega) (by omega) ?_)
              cases el : spLess (aI a) v b with
              | true =>
                refine bn_t (by decide) ?_
                have := go τ' hT (Or.inr (by rw [eb]; exact el))
                rw [eb] at this
                exact this
              | false =>
                refine bn_f rfl ?_
                have hq := ih f (v + 1) τ' (by omega) (by omega) (by omega) hT
                rw [es, hoS, if_neg (by
                  rintro ⟨-, z, -⟩
                  rcases z with z | z
                  · rw [eb] at z; cases z
                  · rw [eb] at z
                    have z : spLess (aI a) v b = true := z
                    rw [el] at z; cases z), eb] at hq
                exact hq
          · have hq := ih f (v + 1) τ' (by omega) (by omega) (by omega) hT
            rw [es, hoS, if_neg (fun z => c1 z.1)] at hq
            exact bn_t c1 hq
      exact lp (2 ^ iC (aI a) 0) _ 0 τ1 rfl (Nat.lt_succ_self _) (Nat.zero_le _) h1
end THo
