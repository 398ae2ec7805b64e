/-! PURE SIDE: parts; the model's. -/
section TPa
variable {a : AS} {τ τ' : Sto} {K : Int32 → Sto → Prop} {I : Isl} {s : Nat → Nat}
theorem RT.scr (h : RT a τ) {i j : Nat} (hs : scrT i j) (hn : ¬ (i = 0 ∧ j = 92)) {v : Int32} : RT a (sI τ i j v) := by
  refine h.fr ⟨fun p q hpq => ?_, fun _ _ _ => rfl, ?_⟩
  · refine sI_ne ?_
    rintro ⟨rfl, rfl⟩
    exact hpq hs
  · obtain ⟨c, hc, hc2⟩ := h.2.2.2.2.2.2.2.2.2.2
    exact ⟨c, hc, by rw [sI_ne (by rintro ⟨rfl, rfl⟩; exact hn ⟨rfl, rfl⟩)]; exact hc2⟩
/-- two are alike in some trials -/
def paU (I : Isl) (s : Nat → Nat) (v f t m : Nat) : Prop := ∀ k, k < m → v.testBit k = true → spTrial I s k f = spTrial I s k t
def paO (I : Isl) (s : Nat → Nat) (v f t : Nat) : Prop := s (5 + 5 * f) = 1 → s (1 + 5 * t) = 2 → s (5 + 5 * t) = 0 → ¬ paU I s v f t (iC I 2)
def paD (I : Isl) (s : Nat → Nat) (v : Nat) : Prop := ∀ f, f < iC I 0 → ∀ t, t < iC I 0 → paO I s v f t
def allN (p : Nat → Bool) (n : Nat) : Bool := lpN (fun t b => b && p t) n true
theorem allN_iff {p : Nat → Bool} : ∀ {n : Nat}, allN p n = true ↔ ∀ t, t < n → p t = true
  | 0 => ⟨fun _ t z => absurd z (by omega), fun _ => rfl⟩
  | n + 1 => by
    have ih := allN_iff (p := p) (n := n)
    have e : allN p (n + 1) = (allN p n && p n) := rfl
    rw [e, Bool.and_eq_true, ih]
    refine ⟨fun z t ht => ?_, fun z => ⟨fun t ht => z t (by omega), z n (by omega)⟩⟩
    by_cases c : t = n
    · subst c; exact z.2
    · exact z.1 t (by omega)
def paB (I : Isl) (s : Nat → Nat) (v : Nat) : Bool := allN (fun f => allN (fun t => !(decide (s (5 + 5 * f) = 1) && (decide (s (1 + 5 * t) = 2) && decide (s (5 + 5 * t) = 0)) && allN (fun k => !v.testBit k || (spTrial I s k f == spTrial I s k t)) (iC I 2))) (iC I 0)) (iC I 0)
theorem paU_iff {v f t m : Nat} : allN (fun k => !v.testBit k || (spTrial I s k f == spTrial I s k t)) m = true ↔ paU I s v f t m := by
  rw [allN_iff]
  refine ⟨fun z k hk hb => ?_, fun z k hk => ?_⟩
  · have := z k hk
    rw [hb] at this
    simpa using this
  · cases e : v.testBit k with
    | false => rfl
    | true => have := z k hk e; rw [this]; simp
theorem paB_iff (v : Nat) : paB I s v = true ↔ paD I s v := by
  unfold paB paD paO
  rw [allN_iff]
  refine forall_congr' fun f => imp_congr_right fun hf => ?_
  rw [allN_iff]
  refine forall_congr' fun t => imp_congr_right fun ht => ?_
  rw [Bool.not_eq_true', ← Bool.not_eq_true, Bool.and_eq_true, Bool.and_eq_true, Bool.and_eq_true, decide_eq_true_eq, decide_eq_true_eq, decide_eq_true_eq, paU_iff]
  exact ⟨fun z a b c d => z ⟨⟨a, b, c⟩, d⟩, fun z q => z q.1.1 q.1.2.1 q.1.2.2 q.2⟩
theorem paB_t (v : Nat) (h : paD I s v) : paB I s v = true := (paB_iff v).2 h
theorem paB_f (v : Nat) (h : ¬ paD I s v) : paB I s v = false := by
  cases e : paB I s v with
  | false => rfl
  | true => exact absurd ((paB_iff v).1 e) h
def paS (I : Isl) (s : Nat → Nat) (v : Nat) (b : Option Nat) : Option Nat := if (b = none ∨ bcN v < bcN (b.getD 0)) ∧ paB I s v = true then some v else b
def sp_parts (a : AS) : Int32 := ixI (lpN (paS (aI a) (aS a).1) (2 ^ iC (aI a) 2) none)
def paR (I : Isl) (s : Nat → Nat) (τ : Sto) : Prop := ∀ k t, k < iC I 2 → t < iC I 0 → τ.1 57 (8 * k + t) = b1 (spTrial I s k t)
theorem b1_inj {p q : Bool} : b1 p = b1 q ↔ p = q := by cases p <;> cases q <;> decide
theorem T_doPart_54_law {k2 k12 : Int32 → Sto → Prop} {v f t : Nat} (h : EvC I (-1, 0) s τ) (hr : paR I s τ) (hv : v < 256) (hf : f < iC I 0) (ht : t < iC I 0) (h1 : ¬ paU I s v f t (iC I 2) → k12 (nI (t + 1)) τ) (h0 : paU I s v f t (iC I 2) → K 0 τ) : ∃ n, T_doPart_54 K k2 k12 (nI v) (nI f) (nI t) n 0 0 τ := by
  have hc := h.c
  refine ⟨iC I 2 + 1, ?_⟩
  have lp : ∀ (d g k : Nat) (u : Bool), iC I 2 - k = d → d < g → k ≤ iC I 2 → (u = false ↔ paU I s v f t k) → T_doPart_54 K k2 k12 (nI v) (nI f) (nI t) g (b1 u) (nI k) τ := by
    intro d
    induction d with
    | zero =>
      intro g k u hd hg hk hu
      obtain ⟨g, rfl⟩ : ∃ f', g = f' + 1 := ⟨g - 1, by omega⟩
      obtain rfl : k = iC I 2 := by omega
      unfold T_doPart_54
      refine T_trialMany_law h (br_t (nI_le (by omega) (by omega)) ?_)
      cases u with
      | true => refine bn_t (by decide) ?_; rw [nI_1]; exact h1 (fun z => by have := hu.2 z; cases this)
      | false => exact bn_f rfl (h0 (hu.1 rfl))
    | succ d ih =>
      intro g k u hd hg hk hu
      obtain ⟨g, rfl⟩ : ∃ f', g = f' + 1 := ⟨g - 1, by omega⟩
      unfold T_doPart_54
      refine T_trialMany_law h (br_f (nI_ge (by omega) (by omega)) ?_)
      rw [nI_1]
      cases u with
      | true => exact bn_t (by decide) (ih g (k + 1) true (by omega) (by omega) (by omega) ⟨fun z => (by cases z), fun z => hu.2 (fun q hq => z q (by omega))⟩)
      | false =>
        have hu' := hu.1 rfl
        refine bn_f rfl ?_
        rw [has_I v hv k (by omega)]
        cases e : v.testBit k with
        | false =>
          refine bn_t (by decide) (ih g (k + 1) false (by omega) (by omega) (by omega) ⟨fun _ q hq hb => ?_, fun _ => rfl⟩)
          by_cases c : q = k
          · subst c; rw [e] at hb; cases hb
          · exact hu' q (by omega) hb
        | true =>
          have i1 : ∀ t, 8 * nI k + nI t = nI (8 * k + t) := fun t => by rw [show (8 : Int32) * nI k = nI (8 * k) from nI_mul 8 k, nI_add]
          rw [i1, i1]
          refine bn_f rfl ⟨vi_ (by omega) (by omega), vi_ (by omega) (by omega), ?_⟩
          rw [nI_clamp (by omega), nI_clamp (by omega), hr k f (by omega) hf, hr k t (by omega) ht, b1_inj]
          by_cases c : spTrial I s k f = spTrial I s k t
          · refine br_t c (ih g (k + 1) false (by omega) (by omega) (by omega) ⟨fun _ q hq hb => ?_, fun _ => rfl⟩)
            by_cases c' : q = k
            · subst c'; exact c
            · exact hu' q (by omega) hb
          · exact br_f c (ih g (k + 1) true (by omega) (by omega) (by omega) ⟨fun z => (by cases z), fun z => absurd (z k (by omega) e) c⟩)
  exact lp (iC I 2) _ 0 false rfl (by omega) (by omega) ⟨fun _ k hk => absurd hk (by omega), fun _ => rfl⟩
theorem T_doPart_law {v : Nat} (h : EvC I (-1, 0) s τ) (hr : paR I s τ) (hv : v < 256) (hk : K (b1 (paB I s v)) τ) : T_doPart τ (nI v) K := by
  have hc := h.c
  have h1 : paD I s v → K 1 τ := fun z => by rw [paB_t v z] at hk; exact hk
  have h0 : ¬ paD I s v → K 0 τ := fun z => by rw [paB_f v z] at hk; exact hk
  refine ⟨iC I 0 + 1, ?_⟩
  have lp : ∀ (d g f : Nat), iC I 0 - f = d → d < g → f ≤ iC I 0 → (∀ f', f' < f → ∀ t, t < iC I 0 → paO I s v f' t) → T_doPart_2 K (nI v) g (nI f) τ := by
    intro d
    induction d with
    | zero =>
      intro g f hd hg hf hD
      obtain ⟨g, rfl⟩ : ∃ f', g = f' + 1 := ⟨g - 1, by omega⟩
      obtain rfl : f = iC I 0 := by omega
      unfold T_doPart_2
      exact T_thingMany_law h (br_t (nI_le (by omega) (by omega)) (h1 hD))
    | succ d ih =>
      intro g f hd hg hf hD
      obtain ⟨g, rfl⟩ : ∃ f', g = f' + 1 := ⟨g - 1, by omega⟩
      unfold T_doPart_2
      refine T_thingMany_law h (br_f (nI_ge (by omega) (by omega)) ⟨iC I 0 + 1, ?_⟩)
      have lp2 : ∀ (d2 g2 t : Nat), iC I 0 - t = d2 → d2 < g2 → t ≤ iC I 0 → (∀ t', t' < t → paO I s v f t') → T_doPart_12 K (T_doPart_2 K (nI v) g) (nI v) (nI f) g2 (nI t) τ := by
        intro d2
        induction d2 with
        | zero =>
          intro g2 t hd2 hg2 ht hT
          obtain ⟨g2, rfl⟩ : ∃ f', g2 = f' + 1 := ⟨g2 - 1, by omega⟩
          obtain rfl : t = iC I 0 := by omega
          unfold T_doPart_12
          refine T_thingMany_law h (br_t (nI_le (by omega) (by omega)) ?_)
          rw [nI_1]
          refine ih g (f + 1) (by omega) (by omega) (by omega) (fun f' hf' => ?_)
          by_cases c : f' = f
          · subst c; exact hT
          · exact hD f' (by omega)
        | succ d2 ih2 =>
          intro g2 t hd2 hg2 ht hT
          obtain ⟨g2, rfl⟩ : ∃ f', g2 = f' + 1 := ⟨g2 - 1, by omega⟩
          have next : paO I s v f t → T_doPart_12 K (T_doPart_2 K (nI v) g) (nI v) (nI f) g2 (nI (t + 1)) τ := fun z => ih2 g2 (t + 1) (by omega) (by omega) (by omega) (fun t' ht' => by
            by_cases c : t' = t
            · subst c; exact z
            · exact hT t' (by omega))
          have b5 := h.2.2.2.1.2.2 f (by omega)
          have b5' := h.2.2.2.1.2.2 t (by omega)
          have b1' := h.2.2.2.1.2.1 (1 + 5 * t) (by omega) (by omega)
          unfold T_doPart_12
          rw [show nI t + 1 = nI (t + 1) from nI_1 t]
          refine T_thingMany_law h (br_f (nI_ge (by omega) (by omega)) (T_isForged_law h (by omega) ?_))
          by_cases c1 : s (5 + 5 * f) = 1
          · refine br_f (by rw [c1]; decide) (T_stateOf_law h (by omega) ?_)
            by_cases c2 : s (1 + 5 * t) = 2
            · refine bn_f (by rw [c2]; rfl) (T_isForged_law h (by omega) ?_)
              by_cases c3 : s (5 + 5 * t) = 0
              · refine br_t (by rw [c3]; rfl) (T_doPart_54_law h hr hv (by omega) (by omega) (fun z => next (fun _ _ _ => z)) (fun z => h0 (fun q => q f (by omega) t (by omega) c1 c2 c3 z)))
              · exact br_f (nI_ne0 (by omega) (by omega)) (next (fun _ _ z => absurd z c3))
            · exact bn_t (fun z => c2 ((nI_eq (b := 2) (by omega) (by omega)).mp z)) (next (fun _ z => absurd z c2))
          · rw [show s (5 + 5 * f) = 0 by omega]
            exact br_t rfl (next (fun z => absurd z c1))
      exact lp2 (iC I 0) _ 0 rfl (by omega) (by omega) (fun _ z => absurd z (by omega))
  exact lp (iC I 0) _ 0 rfl (by omega) (by omega) (fun _ z => absurd z (by omega))
theorem paS_lt : ∀ n b, lpN (paS I s) n none = some b → b < n
  | 0, b, h => by cases h
  | n + 1, b, h => by
    have ih := paS_lt n b
    have h : paS I s n (lpN (paS I s) n none) = some b := h
    unfold paS at h
    split at h
    · cases h; omega
    · have := ih h; omega
theorem T_parts_61_law (h : RT a τ) (hr : paR (aI a) (aS a).1 τ) (hk : K (sp_parts a) τ) : ∃ n, T_parts_61 K n (-1) 0 τ := by
  have hE := h.ev
  have hc := hE.c
  have hp : 2 ^ iC (aI a) 2 ≤ 32 := Nat.pow_le_pow_right (n := 2) (by omega) hc.2.2
  refine ⟨2 ^ iC (aI a) 2 + 1, ?_⟩
  have lp : ∀ (d g v : Nat), 2 ^ iC (aI a) 2 - v = d → d < g → v ≤ 2 ^ iC (aI a) 2 → T_parts_61 K g (ixI (lpN (paS (aI a) (aS a).1) v none)) (nI v) τ := by
    intro d
    induction d with
    | zero =>
      intro g v hd hg hv
      obtain ⟨g, rfl⟩ : ∃ f', g = f' + 1 := ⟨g - 1, by omega⟩
      obtain rfl : v = 2 ^ iC (aI a) 2 := by omega
      unfold T_parts_61
      refine T_trialMany_law hE ?_
      rw [pow_I _ (by omega)]
      exact br_t (nI_le (Nat.le_refl _) (by omega)) hk
    | succ d ih =>
      intro g v hd hg hv
      obtain ⟨g, rfl⟩ : ∃ f', g = f' + 1 := ⟨g - 1, by omega⟩
      unfold T_parts_61
      refine T_trialMany_law hE ?_
      rw [pow_I _ (by omega), nI_1]
      refine br_f (nI_ge (by omega) (by omega)) ?_
      have es : lpN (paS (aI a) (aS a).1) (v + 1) none = paS (aI a) (aS a).1 v (lpN (paS (aI a) (aS a).1) v none) := rfl
      have hq := ih g (v + 1) (by omega) (by omega) (by omega)
      rw [es, paS] at hq
      have go : (lpN (paS (aI a) (aS a).1) v none = none ∨ bcN v < bcN ((lpN (paS (aI a) (aS a).1) v none).getD 0)) → T_parts_87 K (T_parts_61 K g) (ixI (lpN (paS (aI a) (aS a).1) v none)) (nI v) τ := by
        intro hl
        unfold T_parts_87
        refine T_doPart_law hE hr (by omega) ?_
        rw [nI_1]
        cases e : paB (aI a) (aS a).1 v with
        | true => rw [if_pos ⟨hl, e⟩] at hq; exact br_f (by decide) hq
        | false => rw [if_neg (fun z => by rw [e] at z; cases z.2)] at hq; exact br_t rfl hq
      cases eb : lpN (paS (aI a) (aS a).1) v none with
      | none => rw [eb] at go; exact br_t rfl (go (Or.inl rfl))
      | some b =>
        rw [eb] at go hq
        have hlt := paS_lt _ b eb
        show ((nI b = -1 → _) ∧ _)
        refine br_f (fun z => nI_m1 (by omega) z.symm) (T_bits_law (by omega) (T_bits_law (by omega) ?_))
        have b1' := bcN_le v
        have b2' := bcN_le b
        by_cases c : bcN v < bcN b
        · exact br_f (nI_ge c (by omega)) (go (Or.inr c))
        · rw [if_neg (by
            rintro ⟨z | z, -⟩
            · cases z
            · exact c z)] at hq
          exact br_t (nI_le (by omega) (by omega)) hq
  exact lp _ _ 0 rfl (Nat.lt_succ_self _) (Nat.zero_le _)
theorem T_parts_law (h : RT a τ) (hk : ∀ τ', RT a τ' → K (sp_parts a) τ') : T_parts τ K := by
  have hc := h.ev.c
  refine ⟨iC (aI a) 2 + 1, ?_⟩
  have lp : ∀ (d g k : Nat) (τ' : Sto), iC (aI a) 2 - k = d → d < g → k ≤ iC (aI a) 2 → RT a τ' → (∀ k' t, k' < k → t < iC (aI a) 0 → τ'.1 57 (8 * k' + t) = b1 (spTrial (aI a) (aS a).1 k' t)) → T_parts_2 K g (nI k) τ' := by
    intro d
    induction d with
    | zero =>
      intro g k τ' hd hg hk2 hR hr
      obtain ⟨g, rfl⟩ : ∃ f', g = f' + 1 := ⟨g - 1, by omega⟩
      obtain rfl : k = iC (aI a) 2 := by omega
      unfold T_parts_2
      exact T_trialMany_law hR.ev (br_t (nI_le (by omega) (by omega)) (T_parts_61_law hR (fun k t h1 h2 => hr k t h1 h2) (hk τ' hR)))
    | succ d ih =>
      intro g k τ' hd hg hk2 hR hr
      obtain ⟨g, rfl⟩ : ∃ f', g = f' + 1 := ⟨g - 1, by omega⟩
      unfold T_parts_2
      refine T_trialMany_law hR.ev (br_f (nI_ge (by omega) (by omega)) ⟨iC (aI a) 0 + 1, ?_⟩)
      have lp2 : ∀ (d2 g2 t : Nat) (τ2 : Sto), iC (aI a) 0 - t = d2 → d2 < g2 → t ≤ iC (aI a) 0 → RT a τ2 → (∀ k' t, k' < k → t < iC (aI a) 0 → τ2.1 57 (8 * k' + t) = b1 (spTrial (aI a) (aS a).1 k' t)) → (∀ t', t' < t → τ2.1 57 (8 * k + t') = b1 (spTrial (aI a) (aS a).1 k t')) → T_parts_12 K (T_parts_2 K g) (nI k) g2 (nI t) τ2 := by
        intro d2
        induction d2 with
        | zero =>
          intro g2 t τ2 hd2 hg2 ht h2 r1 r2
          obtain ⟨g2, rfl⟩ : ∃ f', g2 = f' + 1 := ⟨g2 - 1, by omega⟩
          obtain rfl : t = iC (aI a) 0 := by omega
          unfold T_parts_12
          refine T_thingMany_law h2.ev (br_t (nI_le (by omega) (by omega)) ?_)
          rw [nI_1]
          refine ih g (k + 1) τ2 (by omega) (by omega) (by omega) h2 (fun k' t hk' ht => ?_)
          by_cases c : k' = k
          · subst c; exact r2 t ht
          · exact r1 k' t (by omega) ht
        | succ d2 ih2 =>
          intro g2 t τ2 hd2 hg2 ht h2 r1 r2
          obtain ⟨g2, rfl⟩ : ∃ f', g2 = f' + 1 := ⟨g2 - 1, by omega⟩
          unfold T_parts_12
          refine T_thingMany_law h2.ev (br_f (nI_ge (by omega) (by omega)) (T_isTrial_law h2.ev (by omega) (by omega) fun τ3 f3 => ?_))
          have i1 : 8 * nI k + nI t = nI (8 * k + t) := by rw [show (8 : Int32) * nI k = nI (8 * k) from nI_mul 8 k, nI_add]
          rw [i1, nI_clamp (by omega), show nI t + 1 = nI (t + 1) from nI_1 t]
          have go : ∀ τ4, τ4 = sI τ3 57 (8 * k + t) (b1 (spTrial (aI a) (aS a).1 k t)) → T_parts_12 K (T_parts_2 K g) (nI k) g2 (nI (t + 1)) τ4 := by
            rintro τ4 rfl
            refine ih2 g2 (t + 1) _ (by omega) (by omega) (by omega) ((h2.frE f3).scr (by simp [scrT]) (by omega)) (fun k' t' hk' ht' => ?_) (fun t' ht' => ?_)
            · rw [sI_ne (by omega), f3.1 57 _ (by omega)]; exact r1 k' t' hk' ht'
            · by_cases c : t' = t
              · subst c; exact sI_same _ _ _ _
              · rw [sI_ne (by omega), f3.1 57 _ (by omega)]; exact r2 t' (by omega)
          cases e : spTrial (aI a) (aS a).1 k t with
          | true => rw [e] at go; exact br_f (by decide) ⟨vi_ (by omega) (by omega), go⟩
          | false => rw [e] at go; exact br_t rfl ⟨vi_ (by omega) (by omega), go⟩
      exact lp2 (iC (aI a) 0) _ 0 τ' rfl (by omega) (by omega) hR hr (fun _ z => absurd z (by omega))
  exact lp (iC (aI a) 2) _ 0 τ rfl (by omega) (by omega) h (fun _ _ z => absurd z (by omega))
end TPa
