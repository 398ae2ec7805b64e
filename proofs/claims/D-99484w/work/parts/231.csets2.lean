/-! COMPONENT, PURE SIDE: lawed, parts, house. -/
section CSe
variable {σ σ' σ'' : CS} {a : AS} {I : Isl} {K : Int32 → CS → Prop} {x y : Int32} {i j n ob v : Nat} {s : St}
theorem setN_self (p : Nat → Bool) (n : Nat) : ∀ k, k ≤ n → setN (fun t => (setN p n).testBit t) k = setN p k
  | 0, _ => rfl
  | k + 1, h => by
    rw [setN_s, setN_s, setN_self p n k (by omega), setN_bit, decide_eq_true (by omega), Bool.true_and]
theorem co_lawed (h : RC a σ) (ha : AOK a) (hk : ∀ σ', RC a σ' → K (sp_lawed a x y) σ') : U_X0_lawed σ x y K := by
  have hb := ha.ib
  have hc := hb.1
  have hB := ha.2.1.bd
  unfold sp_lawed at hk
  refine co_is (lo := 0) (hi := 2) rfl rfl (br_b _ (fun e => ?_) (fun e => ?_))
  · rw [e] at hk; exact hk σ h
  refine co_is (lo := 0) (hi := 1) rfl rfl (bn_b _ (fun e2 => ?_) (fun e2 => ?_))
  · rw [e, e2] at hk; exact hk σ h
  rw [e, e2, Bool.true_and, if_pos rfl] at hk
  refine cb_standing (h.ev ha) hB fun σ1 f1 => ⟨iC (aI a) 0 + 1, ?_⟩
  have h1 := h.p12 f1
  have hk1 := hk σ1 h1
  have hst : stn a < 256 := setN_256 _ hc
  obtain ⟨P, hP⟩ : ∃ P : Nat → Bool, P = (fun t => if x = 0 then (stn a).testBit t else lwP a x t) := ⟨_, rfl⟩
  have hPn : setN P (iC (aI a) 0) = lwN a x := by
    by_cases c : x = 0
    · have : P = fun t => (stn a).testBit t := by rw [hP]; funext t; rw [if_pos c]
      rw [this, lwN, if_pos c]
      exact setN_self _ _ _ (Nat.le_refl _)
    · have : P = lwP a x := by rw [hP]; funext t; rw [if_neg c]
      rw [this, lwN_eq c e]
  have lp : ∀ (d f t : Nat), iC (aI a) 0 - t = d → d < f → t ≤ iC (aI a) 0 → U_X0_lawed_34 K x y (nI (stn a)) f (nI (setN P t)) (nI t) σ1 := by
    intro d
    induction d with
    | zero =>
      intro f t hd hf ht
      obtain ⟨f, rfl⟩ : ∃ f', f = f' + 1 := ⟨f - 1, by omega⟩
      obtain rfl : t = iC (aI a) 0 := by omega
      unfold U_X0_lawed_34
      refine cb_things h1.is (br_t (nI_le (by omega) (by omega)) ?_)
      rw [hPn]
      by_cases c : y = 0
      · rw [if_pos c] at hk1
        exact bn_f c (cb_useOf h1.is hb (by rw [← hPn]; exact setN_256 _ hc) hk1)
      · rw [if_neg c] at hk1
        exact bn_t c hk1
    | succ d ih =>
      intro f t hd hf ht
      obtain ⟨f, rfl⟩ : ∃ f', f = f' + 1 := ⟨f - 1, by omega⟩
      obtain ⟨s1, -, s3, -⟩ := h1.2.2.2.2.1.1.1.2 t (by omega)
      have b1' := hB.2.1 (1 + 5 * t) (by omega) (by omega)
      have b3' := hB.2.1 (3 + 5 * t) (by omega) (by omega)
      have hn := ih f (t + 1) (by omega) (by omega) (by omega)
      rw [setN_s] at hn
      have go : ∀ b : Bool, P t = b → U_X0_lawed_94 K (U_X0_lawed_34 K x y (nI (stn a)) f) x y (nI (stn a)) (nI (setN P t)) (nI t) (b1 b) σ1 := by
        intro b hb'
        unfold U_X0_lawed_94
        rw [hb'] at hn
        refine br_b b (fun z => ?_) (fun z => ?_)
        · rw [z, if_neg (by decide), Nat.add_zero] at hn
          rw [or_0, nI_1]; exact hn
        · rw [z, if_pos rfl] at hn
          rw [or_I t (by omega) _ (setN_lt _ t), nI_1]; exact hn
      unfold U_X0_lawed_34
      refine cb_things h1.is (br_f (nI_ge (by omega) (by omega)) ?_)
      rw [nI_clamp (by omega)]
      by_cases c0 : x = 0
      · exact bn_f c0 (cb_hasS hst (by omega) (go _ (by rw [hP]; dsimp only; rw [if_pos c0])))
      · have hPt : P t = lwP a x t := by rw [hP]; dsimp only; rw [if_neg c0]
        refine bn_t c0 ⟨vi_ (by omega) (by omega), ?_⟩
        rw [show gI σ1 17 t = _ from s1, show gI σ1 19 t = _ from s3]
        by_cases c : (aS a).1 (1 + 5 * t) = 2
        · refine bn_f (by rw [c]; rfl) ?_
          by_cases c1 : x = 1
          · refine br_t c1 (go true ?_)
            rw [hPt, lwP, decide_eq_true c, c1]; rfl
          · have c2 : ¬ x < 2 := by
              obtain ⟨q1, q2⟩ := inR_ix (n := 3) e (by omega)
              generalize ix x = k at q1 q2
              subst q1
              rcases (show k = 0 ∨ k = 1 ∨ k = 2 by omega) with e' | e' | e'
              · subst e'; exact absurd rfl c0
              · subst e'; exact absurd rfl c1
              · subst e'; decide
            refine br_f c1 ⟨vi_ (by omega) (by omega), ?_⟩
            by_cases c3 : (aS a).1 (3 + 5 * t) ≤ 1
            · exact br_t (nI_le (b := 1) c3 (by omega)) (go false (by rw [hPt, lwP, decide_eq_true c, decide_eq_false c2, decide_eq_false (by omega)]; rfl))
            · exact br_f (nI_ge (a := 1) (by omega) (by omega)) (go true (by rw [hPt, lwP, decide_eq_true c, decide_eq_false c2, decide_eq_true (by omega)]; rfl))
        · exact bn_t (fun z => c ((nI_eq (b := 2) (by omega) (by omega)).mp z)) (go false (by rw [hPt, lwP, decide_eq_false c]; rfl))
  exact lp (iC (aI a) 0) _ 0 rfl (by omega) (by omega)
theorem co_parted66 {k2 k12 : Int32 → CS → Prop} {v f t : Nat} (ha : AOK a) (hv : v < 256) (hf : f < iC (aI a) 0) (ht : t < iC (aI a) 0) (h1 : ¬ paU (aI a) (aS a).1 v f t (iC (aI a) 2) → ∀ σ', RC a σ' → k12 (nI (t + 1)) σ') (h0 : paU (aI a) (aS a).1 v f t (iC (aI a) 2) → ∀ σ', RC a σ' → K 0 σ') (h : RC a σ) : ∃ n, U_X0_isParted_66 K k2 k12 (nI v) (nI f) (nI t) n 0 0 σ := by
  have hb := ha.ib
  have hc := hb.2.2
  refine ⟨iC (aI a) 2 + 1, ?_⟩
  have lp : ∀ (d g k : Nat) (u : Bool) (σ' : CS), iC (aI a) 2 - k = d → d < g → k ≤ iC (aI a) 2 → (u = false ↔ paU (aI a) (aS a).1 v f t k) → RC a σ' → U_X0_isParted_66 K k2 k12 (nI v) (nI f) (nI t) g (b1 u) (nI k) σ' := by
    intro d
    induction d with
    | zero =>
      intro g k u σ' hd hg hk hu h'
      obtain ⟨g, rfl⟩ : ∃ f', g = f' + 1 := ⟨g - 1, by omega⟩
      obtain rfl : k = iC (aI a) 2 := by omega
      unfold U_X0_isParted_66
      refine cb_trials h'.is (br_t (nI_le (by omega) (by omega)) ?_)
      cases u with
      | true => refine bn_t (by decide) ?_; rw [nI_1]; exact h1 (fun z => by have := hu.2 z; cases this) σ' h'
      | false => exact bn_f rfl (h0 (hu.1 rfl) σ' h')
    | succ d ih =>
      intro g k u σ' hd hg hk hu h'
      obtain ⟨g, rfl⟩ : ∃ f', g = f' + 1 := ⟨g - 1, by omega⟩
      unfold U_X0_isParted_66
      refine cb_trials h'.is (br_f (nI_ge (by omega) (by omega)) ?_)
      rw [nI_1]
      cases u with
      | true => exact bn_t (by decide) (ih g (k + 1) true σ' (by omega) (by omega) (by omega) ⟨fun z => (by cases z), fun z => hu.2 (fun q hq => z q (by omega))⟩ h')
      | false =>
        have hu' := hu.1 rfl
        refine bn_f rfl (cb_hasS hv (by omega) (br_b _ (fun e => ?_) (fun e => ?_)))
        · refine ih g (k + 1) false σ' (by omega) (by omega) (by omega) ⟨fun _ q hq hb => ?_, fun _ => rfl⟩ h'
          by_cases c : q = k
          · subst c; rw [e] at hb; cases hb
          · exact hu' q (by omega) hb
        · refine cb_trial (h'.ev ha) (by omega) hf fun σ1 f1 => cb_trial ((h'.p12 f1).ev ha) (by omega) ht fun σ2 f2 => ?_
          have h2 := (h'.p12 f1).p12 f2
          rw [b1_inj]
          by_cases c : spTrial (aI a) (aS a).1 k f = spTrial (aI a) (aS a).1 k t
          · refine br_t c (ih g (k + 1) false σ2 (by omega) (by omega) (by omega) ⟨fun _ q hq hb => ?_, fun _ => rfl⟩ h2)
            by_cases c' : q = k
            · subst c'; exact c
            · exact hu' q (by omega) hb
          · exact br_f c (ih g (k + 1) true σ2 (by omega) (by omega) (by omega) ⟨fun z => (by cases z), fun z => absurd (z k (by omega) e) c⟩ h2)
  exact lp (iC (aI a) 2) _ 0 false σ rfl (by omega) (by omega) ⟨fun _ k hk => absurd hk (by omega), fun _ => rfl⟩ h
theorem co_parted {v : Nat} (h : RC a σ) (ha : AOK a) (hv : v < 256) (hk : ∀ σ', RC a σ' → K (b1 (paB (aI a) (aS a).1 v)) σ') : U_X0_isParted σ (nI v) K := by
  have hb := ha.ib
  have hc := hb.1
  have hB := ha.2.1.bd
  have h1 : paD (aI a) (aS a).1 v → ∀ σ', RC a σ' → K 1 σ' := fun z σ' h' => by have := hk σ' h'; rw [paB_t v z] at this; exact this
  have h0 : ¬ paD (aI a) (aS a).1 v → ∀ σ', RC a σ' → K 0 σ' := fun z σ' h' => by have := hk σ' h'; rw [paB_f v z] at this; exact this
  refine ⟨iC (aI a) 0 + 1, ?_⟩
  have lp : ∀ (d g f : Nat) (σ' : CS), iC (aI a) 0 - f = d → d < g → f ≤ iC (aI a) 0 → (∀ f', f' < f → ∀ t, t < iC (aI a) 0 → paO (aI a) (aS a).1 v f' t) → RC a σ' → U_X0_isParted_2 K (nI v) g (nI f) σ' := by
    intro d
    induction d with
    | zero =>
      intro g f σ' hd hg hf hD h'
      obtain ⟨g, rfl⟩ : ∃ f', g = f' + 1 := ⟨g - 1, by omega⟩
      obtain rfl : f = iC (aI a) 0 := by omega
      unfold U_X0_isParted_2
      exact cb_things h'.is (br_t (nI_le (by omega) (by omega)) (h1 hD σ' h'))
    | succ d ih =>
      intro g f σ' hd hg hf hD h'
      obtain ⟨g, rfl⟩ : ∃ f', g = f' + 1 := ⟨g - 1, by omega⟩
      unfold U_X0_isParted_2
      refine cb_things h'.is (br_f (nI_ge (by omega) (by omega)) ⟨iC (aI a) 0 + 1, ?_⟩)
      have lp2 : ∀ (d2 g2 t : Nat) (σ2 : CS), iC (aI a) 0 - t = d2 → d2 < g2 → t ≤ iC (aI a) 0 → (∀ t', t' < t → paO (aI a) (aS a).1 v f t') → RC a σ2 → U_X0_isParted_12 K (U_X0_isParted_2 K (nI v) g) (nI v) (nI f) g2 (nI t) σ2 := by
        intro d2
        induction d2 with
        | zero =>
          intro g2 t σ2 hd2 hg2 ht hT h2
          obtain ⟨g2, rfl⟩ : ∃ f', g2 = f' + 1 := ⟨g2 - 1, by omega⟩
          obtain rfl : t = iC (aI a) 0 := by omega
          unfold U_X0_isParted_12
          refine cb_things h2.is (br_t (nI_le (by omega) (by omega)) ?_)
          rw [nI_1]
          refine ih g (f + 1) σ2 (by omega) (by omega) (by omega) (fun f' hf' => ?_) h2
          by_cases c : f' = f
          · subst c; exact hT
          · exact hD f' (by omega)
        | succ d2 ih2 =>
          intro g2 t σ2 hd2 hg2 ht hT h2
          obtain ⟨g2, rfl⟩ : ∃ f', g2 = f' + 1 := ⟨g2 - 1, by omega⟩
          have next : paO (aI a) (aS a).1 v f t → ∀ σ3, RC a σ3 → U_X0_isParted_12 K (U_X0_isParted_2 K (nI v) g) (nI v) (nI f) g2 (nI (t + 1)) σ3 := fun z σ3 h3 => ih2 g2 (t + 1) σ3 (by omega) (by omega) (by omega) (fun t' ht' => by
            by_cases c : t' = t
            · subst c; exact z
            · exact hT t' (by omega)) h3
          have b5 := hB.2.2 f (by omega)
          have b5' := hB.2.2 t (by omega)
          have b1' := hB.2.1 (1 + 5 * t) (by omega) (by omega)
          obtain ⟨-, -, -, -, sf⟩ := h2.2.2.2.2.1.1.1.2 f (by omega)
          obtain ⟨s1, -, -, -, s5⟩ := h2.2.2.2.2.1.1.1.2 t (by omega)
          unfold U_X0_isParted_12
          rw [show nI t + 1 = nI (t + 1) from nI_1 t, nI_clamp (by omega), nI_clamp (by omega)]
          refine cb_things h2.is (br_f (nI_ge (by omega) (by omega)) ⟨vi_ (by omega) (by omega), ?_⟩)
          rw [show gI σ2 21 f = _ from sf, show gI σ2 17 t = _ from s1, show gI σ2 21 t = _ from s5]
          by_cases c1 : (aS a).1 (5 + 5 * f) = 1
          · refine br_f (by rw [c1]; decide) ⟨vi_ (by omega) (by omega), ?_⟩
            by_cases c2 : (aS a).1 (1 + 5 * t) = 2
            · refine bn_f (by rw [c2]; rfl) ⟨vi_ (by omega) (by omega), ?_⟩
              by_cases c3 : (aS a).1 (5 + 5 * t) = 0
              · refine br_t (by rw [c3]; rfl) (co_parted66 ha hv (by omega) (by omega) (fun z => next (fun _ _ _ => z)) (fun z => h0 (fun q => q f (by omega) t (by omega) c1 c2 c3 z)) h2)
              · exact br_f (nI_ne0 (by omega) (by omega)) (next (fun _ _ z => absurd z c3) σ2 h2)
            · exact bn_t (fun z => c2 ((nI_eq (b := 2) (by omega) (by omega)).mp z)) (next (fun _ z => absurd z c2) σ2 h2)
          · rw [show (aS a).1 (5 + 5 * f) = 0 by omega]
            exact br_t rfl (next (fun z => absurd z c1) σ2 h2)
      exact lp2 (iC (aI a) 0) _ 0 σ' rfl (by omega) (by omega) (fun _ z => absurd z (by omega)) h'
  exact lp (iC (aI a) 0) _ 0 σ rfl (by omega) (by omega) (fun _ z => absurd z (by omega)) h
theorem co_parts (h : RC a σ) (ha : AOK a) (hk : ∀ σ', RC a σ' → K (sp_parts a) σ') : U_X0_parts σ K := by
  have hb := ha.ib
  have hc := hb.2.2
  have hp : 2 ^ iC (aI a) 2 ≤ 32 := Nat.pow_le_pow_right (n := 2) (by omega) hc
  refine ⟨2 ^ iC (aI a) 2 + 1, ?_⟩
  have lp : ∀ (d g v : Nat) (σ' : CS), 2 ^ iC (aI a) 2 - v = d → d < g → v ≤ 2 ^ iC (aI a) 2 → RC a σ' → U_X0_parts_4 K g (ixI (lpN (paS (aI a) (aS a).1) v none)) (nI v) σ' := by
    intro d
    induction d with
    | zero =>
      intro g v σ' hd hg hv h'
      obtain ⟨g, rfl⟩ : ∃ f', g = f' + 1 := ⟨g - 1, by omega⟩
      obtain rfl : v = 2 ^ iC (aI a) 2 := by omega
      unfold U_X0_parts_4
      refine cb_trials h'.is ?_
      rw [pow_I _ (by omega)]
      exact br_t (nI_le (Nat.le_refl _) (by omega)) (hk σ' h')
    | succ d ih =>
      intro g v σ' hd hg hv h'
      obtain ⟨g, rfl⟩ : ∃ f', g = f' + 1 := ⟨g - 1, by omega⟩
      unfold U_X0_parts_4
      refine cb_trials h'.is ?_
      rw [pow_I _ (by omega), nI_1]
      refine br_f (nI_ge (by omega) (by omega)) ?_
      have es : lpN (paS (aI a) (aS a).1) (v + 1) none = paS (aI a) (aS a).1 v (lpN (paS (aI a) (aS a).1) v none) := rfl
      have hq := fun σ2 => ih g (v + 1) σ2 (by omega) (by omega) (by omega)
      rw [es, paS] at hq
      have go : (lpN (paS (aI a) (aS a).1) v none = none ∨ bcN v < bcN ((lpN (paS (aI a) (aS a).1) v none).getD 0)) → U_X0_parts_30 K (U_X0_parts_4 K g) (ixI (lpN (paS (aI a) (aS a).1) v none)) (nI v) σ' := by
        intro hl
        unfold U_X0_parts_30
        refine co_parted h' ha (by omega) fun σ2 h2 => ?_
        rw [nI_1]
        have hq2 := hq σ2 h2
        cases e : paB (aI a) (aS a).1 v with
        | true => rw [if_pos ⟨hl, e⟩] at hq2; exact br_f (by decide) hq2
        | false => rw [if_neg (fun z => by rw [e] at z; cases z.2)] at hq2; exact br_t rfl hq2
      cases eb : lpN (paS (aI a) (aS a).1) v none with
      | none => rw [eb] at go; exact br_t rfl (go (Or.inl rfl))
      | some b =>
        rw [eb] at go hq
        have hlt := paS_lt _ b eb
        show ((nI b = -1 → _) ∧ _)
        refine br_f (fun z => nI_m1 (by omega) z.symm) (cb_bits (by omega) (cb_bits (by omega) ?_))
        have b1' := bcN_le v
        have b2' := bcN_le b
        by_cases c : bcN v < bcN b
        · exact br_f (nI_ge c (by omega)) (go (Or.inr c))
        · have hq2 := hq σ' h'
          rw [if_neg (by
            rintro ⟨z | z, -⟩
            · cases z
            · exact c z)] at hq2
          exact br_t (nI_le (by omega) (by omega)) hq2
  exact lp _ _ 0 σ rfl (Nat.lt_succ_self _) (Nat.zero_le _) h
end CSe
