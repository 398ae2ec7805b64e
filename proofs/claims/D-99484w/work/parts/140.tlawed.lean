/-! PURE SIDE: lawed, letter; the model's. -/
section TLw
variable {a : AS} {τ τ' : Sto} {K : Int32 → Sto → Prop}
def lwP (a : AS) (x : Int32) : Nat → Bool := fun t => decide ((aS a).1 (1 + 5 * t) = 2) && (decide (x < 2) || decide (1 < (aS a).1 (3 + 5 * t)))
theorem lwN_eq {x : Int32} (h0 : ¬ x = 0) (h : inR x 0 2 = true) : lwN a x = setN (lwP a x) (iC (aI a) 0) := by
  unfold lwN
  rw [if_neg h0]
  have : decide (x = 1) = decide (x < 2) := by
    obtain ⟨q1, q2⟩ := inR_ix (n := 3) h (by omega)
    generalize ix x = k at q1 q2
    subst q1
    have : k = 0 ∨ k = 1 ∨ k = 2 := by omega
    rcases this with e | e | e
    · subst e; exact absurd rfl h0
    · subst e; decide
    · subst e; decide
  rw [this]; rfl
theorem T_lawed_91_law {x2 : Int32} {v w : Nat} (h : RT a τ) (hv : v < 256) (hk : ∀ τ', RT a τ' → K (if x2 = 0 then nI (useS (aI a) v (iC (aI a) 0)) else nI v ^^^ nI w) τ') : T_lawed_91 K x2 (nI w) (nI v) τ := by
  unfold T_lawed_91
  by_cases c : x2 = 0
  · simp only [c, if_true] at hk
    exact bn_f c (T_useBy_law h.ev hv (hk τ h))
  · simp only [c, if_false] at hk
    refine bn_t c ?_
    rw [Int32.xor_comm]
    exact hk τ h
theorem T_lawed_law {x y : Int32} (h : RT a τ) (hk : ∀ τ', RT a τ' → K (sp_lawed a x y) τ') : T_lawed τ x y K := by
  have hc := h.ev.c
  unfold sp_lawed at hk
  refine T_isInI (lo := 0) (hi := 2) rfl rfl ?_
  cases e : inR x 0 2 with
  | false => rw [e] at hk; exact br_t rfl (hk τ h)
  | true =>
    rw [e, Bool.true_and] at hk
    refine br_f (by decide) (T_isInI (lo := 0) (hi := 1) rfl rfl ?_)
    cases e2 : inR y 0 1 with
    | false => rw [e2] at hk; exact bn_f rfl (hk τ h)
    | true =>
      rw [e2, if_pos rfl] at hk
      refine bn_t (by decide) (T_standSet_law h.ev fun τ1 f1 => ⟨iC (aI a) 0 + 1, ?_⟩)
      have h1 := h.frE f1
      have hE := h1.ev
      have lp : ∀ (d f t : Nat), iC (aI a) 0 - t = d → d < f → t ≤ iC (aI a) 0 → T_lawed_35 K x y (nI (stn a)) f (nI (setN (lwP a x) t)) (nI t) τ1 := by
        intro d
        induction d with
        | zero =>
          intro f t hd hf ht
          obtain ⟨f, rfl⟩ : ∃ f', f = f' + 1 := ⟨f - 1, by omega⟩
          obtain rfl : t = iC (aI a) 0 := by omega
          unfold T_lawed_35
          refine T_thingMany_law hE (br_t (nI_le (by omega) (by omega)) ?_)
          by_cases c : x = 0
          · refine bn_f c (T_lawed_91_law h1 (setN_256 _ hc.1) ?_)
            have e0 : lwN a x = stn a := by unfold lwN; rw [if_pos c]
            rw [e0] at hk
            exact hk
          · rw [lwN_eq c e] at hk
            exact bn_t c (T_lawed_91_law h1 (setN_256 _ hc.1) hk)
        | succ d ih =>
          intro f t hd hf ht
          obtain ⟨f, rfl⟩ : ∃ f', f = f' + 1 := ⟨f - 1, by omega⟩
          unfold T_lawed_35
          have hb := hE.2.2.2.1.2.1 (1 + 5 * t) (by omega) (by omega)
          have hb3 := hE.2.2.2.1.2.1 (3 + 5 * t) (by omega) (by omega)
          refine T_thingMany_law hE (br_f (nI_ge (by omega) (by omega)) (T_stateOf_law hE (by omega) ?_))
          have hn := ih f (t + 1) (by omega) (by omega) (by omega)
          have es : setN (lwP a x) (t + 1) = setN (lwP a x) t + (if lwP a x t = true then 2 ^ t else 0) := rfl
          rw [nI_1]
          have yes : lwP a x t = true → T_lawed_35 K x y (nI (stn a)) f (nI (setN (lwP a x) t) ||| (1 <<< (nI t &&& 31))) (nI (t + 1)) τ1 := by
            intro z
            rw [z, if_pos rfl] at es
            rw [es] at hn
            rw [or_I t (by omega) _ (setN_lt _ t)]
            exact hn
          have no : lwP a x t = false → T_lawed_35 K x y (nI (stn a)) f (nI (setN (lwP a x) t)) (nI (t + 1)) τ1 := by
            intro z
            rw [z, if_neg (by decide), Nat.add_zero] at es
            rw [es] at hn
            exact hn
          by_cases c : (aS a).1 (1 + 5 * t) = 2
          · refine bn_f (by rw [c]; rfl) ?_
            by_cases c2 : x < 2
            · exact br_t c2 (yes (by unfold lwP; rw [decide_eq_true c, decide_eq_true c2]; rfl))
            · refine br_f c2 (T_mendsOf_law hE (by omega) ?_)
              by_cases c3 : (aS a).1 (3 + 5 * t) < 2
              · exact br_t (nI_lt (b := 2) c3 (by omega)) (no (by unfold lwP; rw [decide_eq_true c, decide_eq_false c2, decide_eq_false (by omega)]; rfl))
              · exact br_f (nI_nlt (b := 2) (by omega) (by omega)) (yes (by unfold lwP; rw [decide_eq_true c, decide_eq_false c2, decide_eq_true (by omega)]; rfl))
          · exact bn_t (fun z => c ((nI_eq (b := 2) (by omega) (by omega)).mp z)) (no (by unfold lwP; rw [decide_eq_false c]; rfl))
      exact lp (iC (aI a) 0) _ 0 rfl (by omega) (by omega)
end TLw
