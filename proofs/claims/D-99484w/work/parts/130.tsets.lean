/-! PURE SIDE: sets of things; the model's loops over things. -/
def lpN {β : Type} (f : Nat → β → β) : Nat → β → β
  | 0, b => b
  | n + 1, b => f n (lpN f n b)
def setN (p : Nat → Bool) (n : Nat) : Nat := lpN (fun t a => a + (if p t then 2 ^ t else 0)) n 0
def bcN (v : Nat) : Nat := lpN (fun t a => a + (if v.testBit t then 1 else 0)) 8 0
def useS (I : Isl) (v n : Nat) : Nat := lpN (fun t a => a + (if v.testBit t then iX I (3 * t + 1) else 0)) n 0
def worS (I : Isl) (v n : Nat) : Nat := lpN (fun t a => a + (if v.testBit t then iX I (3 * t) else 0)) n 0
theorem setN_lt (p : Nat → Bool) : ∀ n, setN p n < 2 ^ n
  | 0 => (by omega : (0 : Nat) < 1)
  | n + 1 => by
    have ih := setN_lt p n
    show setN p n + (if p n then 2 ^ n else 0) < 2 ^ (n + 1)
    rw [Nat.pow_succ]
    split <;> omega
theorem setN_bit (p : Nat → Bool) : ∀ n t, (setN p n).testBit t = (decide (t < n) && p t)
  | 0, t => by
    show (0 : Nat).testBit t = _
    rw [Nat.zero_testBit, decide_eq_false (by omega), Bool.false_and]
  | n + 1, t => by
    have ih := setN_bit p n
    have hlt := setN_lt p n
    show (setN p n + (if p n then 2 ^ n else 0)).testBit t = _
    by_cases e : t = n
    · subst e
      rw [decide_eq_true (by omega), Bool.true_and]
      cases hp : p t with
      | true =>
        rw [if_pos rfl, Nat.add_comm, Nat.testBit_two_pow_add_eq, ih, decide_eq_false (by omega)]; rfl
      | false =>
        rw [if_neg (by decide), Nat.add_zero, ih, decide_eq_false (by omega)]; rfl
    · by_cases hl : t < n
      · rw [decide_eq_true (by omega), Bool.true_and]
        cases hp : p n with
        | true => rw [if_pos rfl, Nat.add_comm, Nat.testBit_two_pow_add_gt hl, ih, decide_eq_true hl, Bool.true_and]
        | false => rw [if_neg (by decide), Nat.add_zero, ih, decide_eq_true hl, Bool.true_and]
      · rw [decide_eq_false (by omega), Bool.false_and]
        apply Nat.testBit_lt_two_pow
        have h1 := setN_lt p (n + 1)
        have h2 : setN p (n + 1) = setN p n + (if p n then 2 ^ n else 0) := rfl
        rw [h2] at h1
        exact Nat.lt_of_lt_of_le h1 (Nat.pow_le_pow_right (by omega) (by omega))
theorem setN_256 (p : Nat → Bool) {n : Nat} (h : n ≤ 8) : setN p n < 256 := Nat.lt_of_lt_of_le (setN_lt p n) (Nat.pow_le_pow_right (n := 2) (by omega) h)
theorem or_I : ∀ t, t < 8 → ∀ a, a < 2 ^ t → nI a ||| (1 <<< (nI t &&& 31)) = nI (a + 2 ^ t) := by decide +kernel
theorem has_I : ∀ v, v < 256 → ∀ t, t < 8 → (((nI v >>> (nI t &&& 31)) &&& 1) = 1 ↔ v.testBit t = true) := by decide +kernel
theorem has_I0 : ∀ v, v < 256 → ∀ t, t < 8 → (((nI v >>> (nI t &&& 31)) &&& 1) = 0 ↔ v.testBit t = false) := by decide +kernel
theorem lpN_le {f : Nat → Nat → Nat} {c : Nat} (h : ∀ t a, f t a ≤ a + c) : ∀ n, lpN f n 0 ≤ c * n
  | 0 => by simp [lpN]
  | n + 1 => by
    have ih := lpN_le h n
    have := h n (lpN f n 0)
    show f n (lpN f n 0) ≤ _
    rw [Nat.mul_succ]
    omega
theorem lpN_le' {f : Nat → Nat → Nat} {c : Nat} : ∀ n, (∀ t a, t < n → f t a ≤ a + c) → lpN f n 0 ≤ c * n
  | 0, _ => by simp [lpN]
  | n + 1, h => by
    have ih := lpN_le' n (fun t a ht => h t a (by omega))
    have := h n (lpN f n 0) (by omega)
    show f n (lpN f n 0) ≤ _
    rw [Nat.mul_succ]
    omega
section TSe
variable {I : Isl} {fr : Int32 × Int32} {s : Nat → Nat} {τ τ' : Sto} {t w m : Nat}
theorem useS_le (h : IslOK I) (v : Nat) {n : Nat} (hn : n ≤ iC I 0) : useS I v n ≤ 99 * n := by
  refine lpN_le' n (fun t a ht => ?_)
  have := (h.2.2.1 t (by omega)).2.1
  split <;> omega
theorem worS_le (h : IslOK I) (v : Nat) {n : Nat} (hn : n ≤ iC I 0) : worS I v n ≤ 99 * n := by
  refine lpN_le' n (fun t a ht => ?_)
  have := (h.2.2.1 t (by omega)).1
  split <;> omega
theorem T_thingMany_law {K : Int32 → Sto → Prop} (h : EvC I fr s τ) (hk : K (nI (iC I 0)) τ) : T_thingMany τ K := ⟨vi_ (i := 3) (by omega) (by omega), by rw [show τ.1 40 (Int32.toNatClampNeg 3) = nI (iC I 0) from h.n0]; exact hk⟩
theorem T_menderMany_law {K : Int32 → Sto → Prop} (h : EvC I fr s τ) (hk : K (nI (iC I 1)) τ) : T_menderMany τ K := ⟨vi_ (i := 4) (by omega) (by omega), by rw [show τ.1 40 (Int32.toNatClampNeg 4) = nI (iC I 1) from h.n1]; exact hk⟩
theorem T_trialMany_law {K : Int32 → Sto → Prop} (h : EvC I fr s τ) (hk : K (nI (iC I 2)) τ) : T_trialMany τ K := ⟨vi_ (i := 5) (by omega) (by omega), by rw [show τ.1 40 (Int32.toNatClampNeg 5) = nI (iC I 2) from h.n2]; exact hk⟩
theorem T_setOf_law {K : Int32 → Sto → Prop} {x : Nat} {x1 : Int32} (e1 : x1 = nI x) (hx : x < 100) (h : EvC I fr s τ) (hk : K (nI (setN (fun t => decide (s (1 + 5 * t) = x)) (iC I 0))) τ) : T_setOf τ x1 K := by
  subst e1
  have hc := h.c
  refine ⟨iC I 0 + 1, ?_⟩
  have lp : ∀ (d f t : Nat), iC I 0 - t = d → d < f → t ≤ iC I 0 → T_setOf_4 K (nI x) f (nI (setN (fun t => decide (s (1 + 5 * t) = x)) t)) (nI t) τ := by
    intro d
    induction d with
    | zero =>
      intro f t hd hf ht
      obtain ⟨f, rfl⟩ : ∃ f', f = f' + 1 := ⟨f - 1, by omega⟩
      obtain rfl : t = iC I 0 := by omega
      unfold T_setOf_4
      exact T_thingMany_law h (br_t (nI_le (by omega) (by omega)) hk)
    | succ d ih =>
      intro f t hd hf ht
      obtain ⟨f, rfl⟩ : ∃ f', f = f' + 1 := ⟨f - 1, by omega⟩
      unfold T_setOf_4
      have hb := h.2.2.2.1.2.1 (1 + 5 * t) (by omega) (by omega)
      refine T_thingMany_law h (br_f (nI_ge (by omega) (by omega)) (T_stateOf_law h (by omega) ?_))
      have hn := ih f (t + 1) (by omega) (by omega) (by omega)
      have es : setN (fun t => decide (s (1 + 5 * t) = x)) (t + 1) = setN (fun t => decide (s (1 + 5 * t) = x)) t + (if decide (s (1 + 5 * t) = x) = true then 2 ^ t else 0) := rfl
      rw [nI_1]
      by_cases e : s (1 + 5 * t) = x
      · rw [decide_eq_true e, if_pos rfl] at es
        rw [es] at hn
        refine bn_f (by rw [e]) ?_
        rw [or_I t (by omega) _ (setN_lt _ t)]
        exact hn
      · rw [decide_eq_false e, if_neg (by decide), Nat.add_zero] at es
        rw [es] at hn
        exact bn_t (fun z => e ((nI_eq (by omega) (by omega)).mp z)) hn
  exact lp (iC I 0) _ 0 rfl (by omega) (by omega)
theorem T_standSet_law {K : Int32 → Sto → Prop} (h : EvC I fr s τ) (hk : ∀ τ', FrE τ τ' → K (nI (setN (spStands I fr s) (iC I 0))) τ') : T_standSet τ K := by
  have hc := h.c
  refine ⟨iC I 0 + 1, ?_⟩
  have lp : ∀ (d f t : Nat) (τ' : Sto), iC I 0 - t = d → d < f → t ≤ iC I 0 → FrE τ τ' → T_standSet_4 K f (nI (setN (spStands I fr s) t)) (nI t) τ' := by
    intro d
    induction d with
    | zero =>
      intro f t τ' hd hf ht g
      obtain ⟨f, rfl⟩ : ∃ f', f = f' + 1 := ⟨f - 1, by omega⟩
      obtain rfl : t = iC I 0 := by omega
      unfold T_standSet_4
      exact T_thingMany_law (h.fr_ g) (br_t (nI_le (by omega) (by omega)) (hk τ' g))
    | succ d ih =>
      intro f t τ' hd hf ht g
      obtain ⟨f, rfl⟩ : ∃ f', f = f' + 1 := ⟨f - 1, by omega⟩
      unfold T_standSet_4
      refine T_thingMany_law (h.fr_ g) (br_f (nI_ge (by omega) (by omega)) (T_doesStand_law (h.fr_ g) (by omega) fun τ'' g' => ?_))
      have hn := ih f (t + 1) τ'' (by omega) (by omega) (by omega) (g.trans g')
      have es : setN (spStands I fr s) (t + 1) = setN (spStands I fr s) t + (if spStands I fr s t = true then 2 ^ t else 0) := rfl
      rw [nI_1]
      cases e : spStands I fr s t with
      | true =>
        rw [e, if_pos rfl] at es
        rw [es] at hn
        refine br_f (by decide) ?_
        rw [or_I t (by omega) _ (setN_lt _ t)]
        exact hn
      | false =>
        rw [e, if_neg (by decide), Nat.add_zero] at es
        rw [es] at hn
        exact br_t rfl hn
  exact lp (iC I 0) _ 0 τ rfl (by omega) (by omega) (FrE.refl τ)
theorem T_useBy_law {K : Int32 → Sto → Prop} {v : Nat} (h : EvC I fr s τ) (hv : v < 256) (hk : K (nI (useS I v (iC I 0))) τ) : T_useBy τ (nI v) K := by
  have hc := h.c
  refine ⟨iC I 0 + 1, ?_⟩
  have lp : ∀ (d f t : Nat), iC I 0 - t = d → d < f → t ≤ iC I 0 → T_useBy_4 K (nI v) f (nI (useS I v t)) (nI t) τ := by
    intro d
    induction d with
    | zero =>
      intro f t hd hf ht
      obtain ⟨f, rfl⟩ : ∃ f', f = f' + 1 := ⟨f - 1, by omega⟩
      obtain rfl : t = iC I 0 := by omega
      unfold T_useBy_4
      exact T_thingMany_law h (br_t (nI_le (by omega) (by omega)) hk)
    | succ d ih =>
      intro f t hd hf ht
      obtain ⟨f, rfl⟩ : ∃ f', f = f' + 1 := ⟨f - 1, by omega⟩
      unfold T_useBy_4
      refine T_thingMany_law h (br_f (nI_ge (by omega) (by omega)) ?_)
      have hn := ih f (t + 1) (by omega) (by omega) (by omega)
      have es : useS I v (t + 1) = useS I v t + (if v.testBit t = true then iX I (3 * t + 1) else 0) := rfl
      rw [nI_1, has_I v hv t (by omega)]
      cases e : v.testBit t with
      | true =>
        rw [e, if_pos rfl] at es
        rw [es] at hn
        refine bn_f rfl (T_useOf_law h (by omega) ?_)
        rw [nI_add]
        exact hn
      | false =>
        rw [e, if_neg (by decide), Nat.add_zero] at es
        rw [es] at hn
        exact bn_t (by decide) hn
  exact lp (iC I 0) _ 0 rfl (by omega) (by omega)
theorem T_worthBy_law {K : Int32 → Sto → Prop} {v : Nat} (h : EvC I fr s τ) (hv : v < 256) (hk : K (nI (worS I v (iC I 0))) τ) : T_worthBy τ (nI v) K := by
  have hc := h.c
  refine ⟨iC I 0 + 1, ?_⟩
  have lp : ∀ (d f t : Nat), iC I 0 - t = d → d < f → t ≤ iC I 0 → T_worthBy_4 K (nI v) f (nI (worS I v t)) (nI t) τ := by
    intro d
    induction d with
    | zero =>
      intro f t hd hf ht
      obtain ⟨f, rfl⟩ : ∃ f', f = f' + 1 := ⟨f - 1, by omega⟩
      obtain rfl : t = iC I 0 := by omega
      unfold T_worthBy_4
      exact T_thingMany_law h (br_t (nI_le (by omega) (by omega)) hk)
    | succ d ih =>
      intro f t hd hf ht
      obtain ⟨f, rfl⟩ : ∃ f', f = f' + 1 := ⟨f - 1, by omega⟩
      unfold T_worthBy_4
      refine T_thingMany_law h (br_f (nI_ge (by omega) (by omega)) ?_)
      have hn := ih f (t + 1) (by omega) (by omega) (by omega)
      have es : worS I v (t + 1) = worS I v t + (if v.testBit t = true then iX I (3 * t) else 0) := rfl
      rw [nI_1, has_I v hv t (by omega)]
      cases e : v.testBit t with
      | true =>
        rw [e, if_pos rfl] at es
        rw [es] at hn
        refine bn_f rfl ?_
        rw [show (24 : Int32) + 3 * nI t = nI (24 + 3 * t) from i3 t 24, nI_clamp (by omega), h.thg (by omega), nI_add]
        exact ⟨vi_ (by omega) (by omega), st_ hn⟩
      | false =>
        rw [e, if_neg (by decide), Nat.add_zero] at es
        rw [es] at hn
        exact bn_t (by decide) hn
  exact lp (iC I 0) _ 0 rfl (by omega) (by omega)
/-- how often the lowest bit can be taken away -/
def bcL : Nat → Nat → Nat
  | 0, _ => 0
  | f + 1, v => if v = 0 then 0 else 1 + bcL f (v &&& (v - 1))
theorem bcL_eq : ∀ v, v < 256 → bcL 9 v = bcN v := by decide +kernel
theorem and_I : ∀ v, v < 256 → v ≠ 0 → nI v &&& (nI v - 1) = nI (v &&& (v - 1)) ∧ v &&& (v - 1) < v := by decide +kernel
theorem bcL_lt : ∀ v, v < 256 → bcL 9 v ≤ 8 := by decide +kernel
theorem bcN_le (v : Nat) : bcN v ≤ 1 * 8 := lpN_le (fun t a => by split <;> omega) 8
theorem bc_step : ∀ v, v < 256 → v ≠ 0 → bcN v = bcN (v &&& (v - 1)) + 1 := by decide +kernel
theorem T_bits_law {K : Int32 → Sto → Prop} {v : Nat} (hv : v < 256) (hk : K (nI (bcN v)) τ) : T_bits τ (nI v) K := by
  refine ⟨bcN v + 1, ?_⟩
  have lp : ∀ (d f u c : Nat), bcN u = d → d < f → u < 256 → c + bcN u = bcN v → T_bits_4 K f (nI c) (nI u) τ := by
    intro d
    induction d with
    | zero =>
      intro f u c hd hf hu hcv
      obtain ⟨f, rfl⟩ : ∃ f', f = f' + 1 := ⟨f - 1, by omega⟩
      have hu0 : u = 0 := by
        by_cases h : u = 0
        · exact h
        · have := bc_step u hu h; omega
      subst hu0
      unfold T_bits_4
      refine br_t rfl ?_
      rw [show c = bcN v by omega]
      exact hk
    | succ d ih =>
      intro f u c hd hf hu hcv
      obtain ⟨f, rfl⟩ : ∃ f', f = f' + 1 := ⟨f - 1, by omega⟩
      have hu0 : u ≠ 0 := by
        intro h; subst h
        have : bcN 0 = 0 := by decide
        omega
      unfold T_bits_4
      have hs := bc_step u hu hu0
      obtain ⟨q1, q2⟩ := and_I u hu hu0
      rw [nI_1, q1]
      refine br_f (fun z => hu0 ((nI_eq (b := 0) (by omega) (by omega)).mp z)) ?_
      exact ih f _ (c + 1) (by omega) (by omega) (by omega) (by omega)
  exact lp (bcN v) _ v 0 rfl (by omega) hv (by omega)
end TSe
