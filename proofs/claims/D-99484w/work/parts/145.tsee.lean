/-! PURE SIDE: see; the model's. -/
def dyQ (B : Byt) (k : Nat) : Bool := decide ((if k = 0 then 1 else B (k - 1) + 1) ≤ B k ∧ B k ≤ 30)
def dyOK (a : AS) (n : Nat) : Bool := decide (1 ≤ n ∧ n ≤ 20) && (allN (dyQ (aTp a)) n && ahd ((aS a).1 0) (nI (aTp a (n - 1))) 1 30)
def seB (B : Byt) (n d : Nat) : Bool := !allN (fun j => !decide (B j = d)) n
def seQ (a : AS) (t n f k : Nat) : Bool := seB (aTp a) n (k + 1) == br1 a t f (k + 1)
def seN (a : AS) (t n : Nat) : Nat := setN (fun f => allN (seQ a t n f) (aTp a (n - 1))) 10
def aT0 (a : AS) : AS := (aTp a, 0, a.2.2)
def sp_see (a : AS) (x : Int32) : Int32 × AS := if isTh a x && dyOK a (aTn a) then (nI (seN a (ix x) (aTn a)), aT0 a) else (-1, aRef (aT0 a) 1)
section TSe
variable {a : AS} {τ τ' : Sto} {K : Int32 → Sto → Prop}
theorem RT.t0 (h : RT a τ) : RT (aT0 a) (sI τ 0 1 0) := by
  obtain ⟨a1, a2, a3, a4⟩ := h.1
  exact h.tape (Nat.zero_le _) a4 (fun i j _ hij => sI_ne hij) rfl (sI_same ..) (fun i hi => by rw [sI_neI (by omega)]; exact a3 i hi)
theorem or_I10 : ∀ t, t < 10 → ∀ a, a < 2 ^ t → nI a ||| (1 <<< (nI t &&& 31)) = nI (a + 2 ^ t) := by decide +kernel
theorem b1_01 (b : Bool) : b1 b = 0 ∨ b1 b = 1 := by cases b <;> decide
theorem allN_s (p : Nat → Bool) (n : Nat) : allN p (n + 1) = (allN p n && p n) := rfl
theorem allN_f {p : Nat → Bool} {n k : Nat} (hk : k < n) (h : p k = false) : allN p n = false := by
  cases e : allN p n with
  | false => rfl
  | true => rw [allN_iff.1 e k hk] at h; cases h
theorem T_areDays_law {n : Nat} (h : RT a τ) (hn : n ≤ 1600) (hk : K (b1 (dyOK a n)) τ) : T_areDays τ (nI n) K := by
  obtain ⟨-, -, a3, a4⟩ := h.1
  unfold dyOK at hk
  refine T_isInI (lo := 1) (hi := 20) rfl rfl ?_
  have en : inR (nI n) 1 20 = decide (1 ≤ n ∧ n ≤ 20) := by
    unfold inR; rw [nI_toInt (by omega)]; apply decide_eq_decide.mpr; omega
  rw [en]
  by_cases c : 1 ≤ n ∧ n ≤ 20
  · rw [decide_eq_true c, Bool.true_and] at hk
    rw [decide_eq_true c]
    refine bn_t (by decide) ⟨n + 1, ?_⟩
    have lp : ∀ (d g k : Nat), n - k = d → d < g → k ≤ n → allN (dyQ (aTp a)) k = true → T_areDays_16 K (nI n) g (nI k) τ := by
      intro d
      induction d with
      | zero =>
        intro g k hd hg hkn hq
        obtain ⟨g, rfl⟩ : ∃ f', g = f' + 1 := ⟨g - 1, by omega⟩
        obtain rfl : k = n := by omega
        rw [hq, Bool.true_and] at hk
        unfold T_areDays_16
        obtain ⟨k, rfl⟩ : ∃ k', k = k' + 1 := ⟨k - 1, by omega⟩
        rw [Nat.add_sub_cancel] at hk
        rw [nI_pred, nI_clamp (by omega), a3 k (by omega)]
        exact br_t (nI_le (by omega) (by omega)) ⟨vi_ (by omega) (by omega), T_isAhead_law h.ev (lo := 1) (hi := 30) rfl rfl (by omega) (by omega) ⟨b1_01 _, hk⟩⟩
      | succ d ih =>
        intro g k hd hg hkn hq
        obtain ⟨g, rfl⟩ : ∃ f', g = f' + 1 := ⟨g - 1, by omega⟩
        unfold T_areDays_16
        have hb := a4 k
        have hb' := a4 (k - 1)
        have fin : dyQ (aTp a) k = false → K 0 τ := fun z => by
          rw [allN_f (k := k) (by omega) z] at hk; exact hk
        have nxt : dyQ (aTp a) k = true → T_areDays_16 K (nI n) g (nI (k + 1)) τ := fun z => ih g (k + 1) (by omega) (by omega) (by omega) (by rw [allN_s, hq, z]; rfl)
        rw [nI_clamp (by omega), a3 k (by omega), nI_1]
        refine br_f (nI_ge (by omega) (by omega)) ⟨vi_ (by omega) (by omega), ?_⟩
        by_cases c0 : k = 0
        · refine bn_f (by rw [c0]; rfl) (T_isInI (lo := 1) (hi := 30) rfl rfl ?_)
          have e : inR (nI (aTp a k)) 1 30 = dyQ (aTp a) k := by
            unfold inR dyQ; rw [nI_toInt (by omega), if_pos c0]; apply decide_eq_decide.mpr; omega
          rw [e]
          cases e2 : dyQ (aTp a) k with
          | true => exact bn_t (by decide) (nxt e2)
          | false => exact bn_f rfl (fin e2)
        · have ek : nI k - 1 = nI (k - 1) := by
            obtain ⟨k, rfl⟩ : ∃ k', k = k' + 1 := ⟨k - 1, by omega⟩
            exact nI_pred k
          rw [ek, nI_clamp (by omega), a3 (k - 1) (by omega), nI_1]
          refine bn_t (nI_ne0 (by omega) (by omega)) ⟨vi_ (by omega) (by omega), T_isInI (lo := ((aTp a (k - 1) + 1 : Nat) : Int)) (hi := 30) (by rw [Int32.toInt_toInt64, nI_toInt (by omega)]) rfl ?_⟩
          have e : inR (nI (aTp a k)) ((aTp a (k - 1) + 1 : Nat) : Int) 30 = dyQ (aTp a) k := by
            unfold inR dyQ; rw [nI_toInt (by omega), if_neg c0]; apply decide_eq_decide.mpr; omega
          rw [e]
          cases e2 : dyQ (aTp a) k with
          | true => exact bn_t (by decide) (nxt e2)
          | false => exact bn_f rfl (fin e2)
    exact lp n (n + 1) 0 rfl (by omega) (by omega) rfl
  · rw [decide_eq_false c, Bool.false_and] at hk
    rw [decide_eq_false c]
    exact bn_f rfl hk
theorem dy_mono {B : Byt} {n : Nat} (h : allN (dyQ B) n = true) : ∀ j i, i < j → j < n → B i < B j
  | 0, i, hi, _ => absurd hi (by omega)
  | j + 1, i, hi, hj => by
    have := allN_iff.1 h (j + 1) hj
    unfold dyQ at this
    rw [decide_eq_true_eq, if_neg (by omega), Nat.add_sub_cancel] at this
    by_cases c : i = j
    · subst c; omega
    · have := dy_mono h j i (by omega) (by omega); omega
theorem seB_k {B : Byt} {n k d : Nat} (h : allN (dyQ B) n = true) (hk : k < n) (h1 : ∀ j, j < k → B j < d) (h2 : d ≤ B k) : seB B n d = decide (B k = d) := by
  unfold seB
  by_cases c : B k = d
  · rw [decide_eq_true c, allN_f hk (by rw [decide_eq_true c]; rfl)]; rfl
  · rw [decide_eq_false c]
    have : allN (fun j => !decide (B j = d)) n = true := by
      rw [allN_iff]
      intro j hj
      have : B j ≠ d := by
        by_cases c1 : j < k
        · have := h1 j c1; omega
        · by_cases c2 : j = k
          · subst c2; exact c
          · have := dy_mono h j k (by omega) hj; omega
      rw [decide_eq_false this]; rfl
    rw [this]; rfl
theorem T_see_66_law {k50 : Int32 → Int32 → Sto → Prop} {t n f v : Nat} (h : RT a τ) (hn : 1 ≤ n ∧ n ≤ 20) (hd : allN (dyQ (aTp a)) n = true) (hB : ∀ f d, f < 10 → 1 ≤ d → d ≤ aTp a (n - 1) → τ.1 64 (31 * f + d) = b1 (br1 a t f d)) (hf : f < 10)
    (hk : k50 (if allN (seQ a t n f) (aTp a (n - 1)) then nI v ||| (1 <<< (nI f &&& 31)) else nI v) (nI (f + 1)) τ) : ∃ g, T_see_66 K k50 (nI n) (nI v) (nI f) g 1 0 1 τ := by
  obtain ⟨-, -, a3, a4⟩ := h.1
  have hl : 1 ≤ aTp a (n - 1) ∧ aTp a (n - 1) ≤ 30 := by
    have := allN_iff.1 hd (n - 1) (by omega)
    unfold dyQ at this
    rw [decide_eq_true_eq] at this
    split at this <;> omega
  have en : nI n - 1 = nI (n - 1) := by
    obtain ⟨k, rfl⟩ : ∃ k', n = k' + 1 := ⟨n - 1, by omega⟩
    exact nI_pred k
  have h1' : 1 ≤ aTp a 0 := by
    have := allN_iff.1 hd 0 (by omega)
    unfold dyQ at this
    rw [decide_eq_true_eq, if_pos rfl] at this
    exact this.1
  refine ⟨aTp a (n - 1) + 1, ?_⟩
  have lp : ∀ (e g d k : Nat), aTp a (n - 1) + 1 - d = e → e < g → 1 ≤ d → d ≤ aTp a (n - 1) + 1 → (∀ j, j < k → aTp a j < d) → k ≤ n → (k < n → d ≤ aTp a k) → T_see_66 K k50 (nI n) (nI v) (nI f) g (b1 (allN (seQ a t n f) (d - 1))) (nI k) (nI d) τ := by
    intro e
    induction e with
    | zero =>
      intro g d k he hg hd1 hd2 i1 i2 i3
      obtain ⟨g, rfl⟩ : ∃ f', g = f' + 1 := ⟨g - 1, by omega⟩
      obtain rfl : d = aTp a (n - 1) + 1 := by omega
      unfold T_see_66
      rw [en, nI_clamp (by omega), a3 _ (by omega), nI_1, Nat.add_sub_cancel]
      refine ⟨vi_ (by omega) (by omega), br_t (nI_lt (by omega) (by omega)) ?_⟩
      cases eq : allN (seQ a t n f) (aTp a (n - 1)) with
      | true => rw [eq, if_pos rfl] at hk; exact br_f (by decide) hk
      | false => rw [eq, if_neg (by decide)] at hk; exact br_t rfl hk
    | succ e ih =>
      intro g d k he hg hd1 hd2 i1 i2 i3
      obtain ⟨g, rfl⟩ : ∃ f', g = f' + 1 := ⟨g - 1, by omega⟩
      have hkn : k < n := by
        by_cases c : k < n
        · exact c
        · have := i1 (n - 1) (by omega); omega
      have hdk := i3 hkn
      have hb := a4 k
      unfold T_see_66
      have go : ∀ (b : Bool) (k' : Nat), seB (aTp a) n d = b → (∀ j, j < k' → aTp a j < d + 1) → k' ≤ n → (k' < n → d + 1 ≤ aTp a k') → T_see_106 K k50 (T_see_66 K k50 (nI n) (nI v) (nI f) g) (nI n) (nI v) (nI f) (b1 (allN (seQ a t n f) (d - 1))) (nI k') (nI d) (b1 b) τ := by
        intro b k' hb j1 j2 j3
        unfold T_see_106
        have ii : 31 * nI f + nI d = nI (31 * f + d) := by rw [show (31 : Int32) * nI f = nI (31 * f) from nI_mul 31 f, nI_add]
        rw [ii, nI_clamp (by omega), hB f d hf hd1 (by omega), nI_1, b1_inj]
        have nx := ih g (d + 1) k' (by omega) (by omega) (by omega) (by omega) j1 j2 j3
        obtain ⟨d, rfl⟩ : ∃ d', d = d' + 1 := ⟨d - 1, by omega⟩
        rw [Nat.add_sub_cancel] at nx ⊢
        rw [allN_s, seQ, hb] at nx
        cases eq : allN (seQ a t n f) d with
        | false => rw [eq, Bool.false_and] at nx; exact br_t rfl nx
        | true =>
          rw [eq, Bool.true_and] at nx
          refine br_f (by decide) ⟨vi_ (by omega) (by omega), ?_⟩
          by_cases c : b = br1 a t f (d + 1)
          · rw [show (b == br1 a t f (d + 1)) = true by simpa using c] at nx; exact bn_f c nx
          · rw [show (b == br1 a t f (d + 1)) = false by simpa using c] at nx; exact bn_t c nx
      have hs := seB_k hd hkn i1 hdk
      rw [en, nI_clamp (by omega), nI_clamp (by omega), a3 _ (by omega), a3 _ (by omega)]
      refine ⟨vi_ (by omega) (by omega), br_f (nI_nlt (by omega) (by omega)) ⟨vi_ (by omega) (by omega), ?_⟩⟩
      by_cases c : aTp a k = d
      · rw [decide_eq_true c] at hs
        rw [nI_1]
        refine bn_f (by rw [c]) (go true (k + 1) hs (fun j hj => ?_) (by omega) (fun z => ?_))
        · by_cases c2 : j = k
          · subst c2; omega
          · have := i1 j (by omega); omega
        · have := dy_mono hd (k + 1) k (by omega) z; omega
      · rw [decide_eq_false c] at hs
        exact bn_t (fun z => c ((nI_eq (by omega) (by omega)).mp z)) (go false k hs (fun j hj => by have := i1 j hj; omega) i2 (fun _ => by omega))
  exact lp _ _ 1 0 rfl (by omega) (by omega) (by omega) (fun j z => absurd z (by omega)) (by omega) (fun _ => h1')
theorem T_see_law {x : Int32} (h : RT a τ) (hk : ∀ τ', RT (sp_see a x).2 τ' → K (sp_see a x).1 τ') : T_see τ x K := by
  have hc := h.ev.c
  obtain ⟨a1, a2, a3, a4⟩ := h.1
  have h0 := h.t0
  unfold sp_see isTh at hk
  unfold T_see
  rw [a2]
  refine st_ (T_isThing_law h0 ?_)
  rw [show inR x 0 ((iC (aI (aT0 a)) 0 : Int) - 1) = inR x 0 ((iC (aI a) 0 : Int) - 1) from rfl]
  cases e : inR x 0 ((iC (aI a) 0 : Int) - 1) with
  | false => rw [e] at hk; exact br_t rfl (T_refuses_law (k := 1) rfl (by omega) h0 hk)
  | true =>
    rw [e, Bool.true_and] at hk
    obtain ⟨q1, q2⟩ := inR_ix e (by omega)
    generalize ix x = t at q1 q2 hk
    subst q1
    refine br_f (by decide) (T_areDays_law h0 a1 ?_)
    rw [show dyOK (aT0 a) (aTn a) = dyOK a (aTn a) from rfl]
    cases e2 : dyOK a (aTn a) with
    | false => rw [e2] at hk; exact bn_f rfl (T_refuses_law (k := 1) rfl (by omega) h0 hk)
    | true =>
      rw [e2, if_pos rfl] at hk
      unfold dyOK at e2
      rw [Bool.and_eq_true, Bool.and_eq_true, decide_eq_true_eq] at e2
      obtain ⟨n1, n2, -⟩ := e2
      generalize aTn a = n at n1 n2 hk a1
      have hl : aTp a (n - 1) ≤ 30 := by
        have := allN_iff.1 n2 (n - 1) (by omega)
        unfold dyQ at this
        rw [decide_eq_true_eq] at this
        exact this.2
      have en : nI n - 1 = nI (n - 1) := by
        obtain ⟨k, rfl⟩ : ∃ k', n = k' + 1 := ⟨n - 1, by omega⟩
        exact nI_pred k
      rw [en, nI_clamp (by omega), sI_neI (by omega), a3 _ (by omega)]
      refine bn_t (by decide) ⟨vi_ (by omega) (by omega), T_laysBreaks_law h0 q2 hl fun τ1 h1 hB => ⟨11, ?_⟩⟩
      have hk1 := hk τ1 h1
      have lp : ∀ (d g f : Nat), 10 - f = d → d < g → f ≤ 10 → T_see_50 K (nI n) g (nI (setN (fun f => allN (seQ a t n f) (aTp a (n - 1))) f)) (nI f) τ1 := by
        intro d
        induction d with
        | zero =>
          intro g f hd hg hf
          obtain ⟨g, rfl⟩ : ∃ f', g = f' + 1 := ⟨g - 1, by omega⟩
          obtain rfl : f = 10 := by omega
          unfold T_see_50
          exact br_t (by decide) hk1
        | succ d ih =>
          intro g f hd hg hf
          obtain ⟨g, rfl⟩ : ∃ f', g = f' + 1 := ⟨g - 1, by omega⟩
          unfold T_see_50
          refine br_f (show ¬ nI 10 ≤ nI f from nI_ge (by omega) (by omega)) (T_see_66_law (a := aT0 a) (t := t) h1 n1 n2 hB (by omega) ?_)
          have hn := ih g (f + 1) (by omega) (by omega) (by omega)
          have es : setN (fun f => allN (seQ a t n f) (aTp a (n - 1))) (f + 1) = setN (fun f => allN (seQ a t n f) (aTp a (n - 1))) f + (if allN (seQ a t n f) (aTp a (n - 1)) = true then 2 ^ f else 0) := rfl
          rw [es] at hn
          show T_see_50 K (nI n) g (if allN (seQ a t n f) (aTp a (n - 1)) = true then _ else _) _ τ1
          cases eq : allN (seQ a t n f) (aTp a (n - 1)) with
          | true => rw [eq, if_pos rfl] at hn; rw [if_pos rfl, or_I10 f (by omega) _ (setN_lt _ f)]; exact hn
          | false => rw [eq, if_neg (by decide)] at hn; rw [if_neg (by decide)]; exact hn
      exact lp 10 11 0 rfl (by omega) (by omega)
end TSe
