/-! PURE SIDE: letter; the model's. -/
section TLe
variable {a : AS} {τ τ' : Sto} {K : Int32 → Sto → Prop}
theorem take_letW {l : List Nat} (h : letW l) (k : Nat) : (∀ c, c ∈ l.take k → pL c = true) ∧ (l.take k).length ≤ 6 := by
  refine ⟨fun c hc => h.1 c (List.mem_of_mem_take hc), ?_⟩
  have := h.2.2
  rw [List.length_take]; omega
theorem take_snoc {l : List Nat} {k : Nat} (h : k < l.length) : l.take (k + 1) = l.take k ++ [l.getD k 0] := by
  rw [List.take_succ, List.getD_eq_getElem?_getD, List.getElem?_eq_getElem h]; rfl
theorem pL_bd {c : Nat} (h : pL c = true) : 97 ≤ c ∧ c ≤ 122 := by
  unfold pL at h; simpa using h
theorem getD_pL {l : List Nat} (h : letW l) {k : Nat} (hk : k < l.length) : 97 ≤ l.getD k 0 ∧ l.getD k 0 ≤ 122 := by
  refine pL_bd (h.1 _ ?_)
  rw [List.getD_eq_getElem?_getD, List.getElem?_eq_getElem hk]
  exact List.getElem_mem hk
theorem nmT_int {l : List Nat} (h : letW l) (k : Nat) : (nmL (l.take k)).toInt = nmN (l.take k) ∧ nmN (l.take k) < 387420489 := ⟨nmL_int _ (take_letW h k).1 (take_letW h k).2, nmN_lt6 (take_letW h k).1 (take_letW h k).2⟩
theorem nmT_div {l : List Nat} (h : letW l) {k : Nat} (hk : k < l.length) : nmL (l.take (k + 1)) / 27 = nmL (l.take k) := by
  apply Int64.toInt_inj.mp
  obtain ⟨e1, b1⟩ := nmT_int h (k + 1)
  obtain ⟨e2, b2⟩ := nmT_int h k
  have hp := getD_pL h hk
  rw [Int64.toInt_div, e1, e2, show (27 : Int64).toInt = 27 by decide]
  have : nmN (l.take (k + 1)) = 27 * nmN (l.take k) + (l.getD k 0 - 96) := by rw [take_snoc hk, nmN_snoc]
  rw [Int.tdiv_eq_ediv_of_nonneg (by omega), bm64 (by omega) (by omega)]
  omega
theorem nmT_mod {l : List Nat} (h : letW l) {k : Nat} (hk : k < l.length) : Int64.toInt32 (nmL (l.take (k + 1)) - nmL (l.take (k + 1)) / 27 * 27) = nI (l.getD k 0 - 96) := by
  rw [nmT_div h hk]
  apply Int32.toInt_inj.mp
  obtain ⟨e1, b1⟩ := nmT_int h (k + 1)
  obtain ⟨e2, b2⟩ := nmT_int h k
  have hp := getD_pL h hk
  have : nmN (l.take (k + 1)) = 27 * nmN (l.take k) + (l.getD k 0 - 96) := by rw [take_snoc hk, nmN_snoc]
  rw [Int64.toInt_toInt32, Int64.toInt_sub, Int64.toInt_mul, e1, e2, show (27 : Int64).toInt = 27 by decide, bm64 (x := (nmN (l.take k) : Int) * 27) (by omega) (by omega), bm64 (by omega) (by omega), nI_toInt (by omega)]
  rw [show ((nmN (l.take (k + 1)) : Int) - nmN (l.take k) * 27) = ((l.getD k 0 - 96 : Nat) : Int) by omega]
  apply Int.bmod_eq_of_le <;> omega
theorem T_letter_104_law {l : List Nat} {z : Nat} (h : letW l) : ∀ (d f k : Nat), k - z = d → d < f → z ≤ k → k < l.length → K (nI (l.getD z 0 - 96)) τ → T_letter_104 K (nI z) f (nmL (l.take (k + 1))) (nI k) τ := by
  have h6 := h.2.2
  intro d
  induction d with
  | zero =>
    intro f k hd hf hz hk hK
    obtain ⟨f, rfl⟩ : ∃ f', f = f' + 1 := ⟨f - 1, by omega⟩
    obtain rfl : k = z := by omega
    unfold T_letter_104
    refine br_t (nI_le (by omega) (by omega)) ?_
    rw [nmT_mod h hk]; exact hK
  | succ d ih =>
    intro f k hd hf hz hk hK
    obtain ⟨f, rfl⟩ : ∃ f', f = f' + 1 := ⟨f - 1, by omega⟩
    unfold T_letter_104
    refine br_f (nI_ge (by omega) (by omega)) ?_
    obtain ⟨k, rfl⟩ : ∃ k', k = k' + 1 := ⟨k - 1, by omega⟩
    rw [nmT_div h hk, show nI (k + 1) + (-1) = nI k by rw [← Int32.sub_eq_add_neg]; exact nI_pred k]
    exact ih f k (by omega) (by omega) (by omega) (by omega) hK
theorem T_letter_law {x y z : Int32} (h : RT a τ) (hk : ∀ τ', RT a τ' → K (sp_letter a x y z) τ') : T_letter τ x y z K := by
  have hE := h.ev
  have hc := hE.c
  have hk0 := hk τ h
  unfold sp_letter at hk0
  refine T_isInI (lo := 0) (hi := 2) rfl rfl ?_
  cases e : inR x 0 2 with
  | false => rw [e] at hk0; exact br_t rfl hk0
  | true =>
    rw [e, Bool.true_and] at hk0
    obtain ⟨q1, q2⟩ := inR_ix (n := 3) e (by omega)
    generalize ix x = kd at q1 q2 hk0
    subst q1
    have h8 : iC (aI a) kd ≤ 8 := by
      have : kd = 0 ∨ kd = 1 ∨ kd = 2 := by omega
      rcases this with e | e | e <;> subst e <;> omega
    refine br_f (by decide) ⟨by rw [show (3 : Int32) + nI kd = nI (3 + kd) from nI_add 3 kd]; exact vi_ (i := 3 + kd) (by omega) (by omega), ?_⟩
    rw [show (3 : Int32) + nI kd = nI (3 + kd) from nI_add 3 kd, nI_clamp (by omega), hE.2.1.1 kd q2]
    refine T_isInI (lo := 0) (hi := (iC (aI a) kd : Int) - 1) rfl (pred_int (by omega)) ?_
    cases e2 : inR y 0 ((iC (aI a) kd : Int) - 1) with
    | false => rw [e2] at hk0; exact br_t rfl hk0
    | true =>
      rw [e2, Bool.true_and] at hk0
      obtain ⟨p1, p2⟩ := inR_ix e2 (by omega)
      generalize ix y = j at p1 p2 hk0
      subst p1
      refine br_f (by decide) (T_isInI (lo := 0) (hi := 5) rfl rfl ?_)
      cases e3 : inR z 0 5 with
      | false => rw [e3] at hk0; exact bn_f rfl hk0
      | true =>
        rw [e3, if_pos rfl] at hk0
        obtain ⟨w1, w2⟩ := inR_ix (n := 6) e3 (by omega)
        generalize ix z = zz at w1 w2 hk0
        subst w1
        have hl : letW (iN (aI a) (8 * kd + j)) := hE.1.2.1 kd j q2 p2
        have h41 : τ.2.1 41 (24 + (8 * kd + j)) = nmL (iN (aI a) (8 * kd + j)) := hE.2.1.2.1 kd j q2 p2
        generalize iN (aI a) (8 * kd + j) = l at hl h41 hk0
        have e24 : (24 + (8 * nI kd)) + nI j = nI (24 + (8 * kd + j)) := by
          rw [show (8 : Int32) * nI kd = nI (8 * kd) from nI_mul 8 kd, show (24 : Int32) + nI (8 * kd) = nI (24 + 8 * kd) from nI_add 24 _, nI_add]; congr 1; omega
        rw [e24]
        refine bn_t (by decide) ⟨vi_ (by omega) (by omega), ?_⟩
        rw [nI_clamp (by omega), h41]
        refine fun y7 e7 => ⟨l.length + 1, ?_⟩
        subst e7
        have h6 := hl.2.2
        have lp : ∀ (k f : Nat), k < f → k ≤ l.length → T_letter_69 K (nI zz) (nmL l) f (nI (l.length - k)) (nmL (l.take k)) τ := by
          intro k
          induction k with
          | zero =>
            intro f hf hkl
            obtain ⟨f, rfl⟩ : ∃ f', f = f' + 1 := ⟨f - 1, by omega⟩
            unfold T_letter_69
            refine br_t (by rw [List.take_zero]; decide) ?_
            rw [Nat.sub_zero]
            by_cases c : zz < l.length
            · rw [if_pos c] at hk0
              refine br_t (nI_lt c (by omega)) ⟨l.length + 1, ?_⟩
              obtain ⟨m, em⟩ : ∃ m, l.length = m + 1 := ⟨l.length - 1, by omega⟩
              have := T_letter_104_law (τ := τ) (K := K) (z := zz) hl (m - zz) (l.length + 1) m rfl (by omega) (by omega) (by omega) hk0
              rw [show m + 1 = l.length by omega, List.take_length] at this
              rw [show nI l.length - 1 = nI m by rw [em]; exact nI_pred m]
              exact this
            · rw [if_neg c] at hk0
              exact br_f (nI_nlt (by omega) (by omega)) hk0
          | succ k ih =>
            intro f hf hkl
            obtain ⟨f, rfl⟩ : ∃ f', f = f' + 1 := ⟨f - 1, by omega⟩
            unfold T_letter_69
            have hp := getD_pL hl (k := k) (by omega)
            have hpos : ¬ nmL (l.take (k + 1)) ≤ 0 := by
              rw [Int64.le_iff_toInt_le, (nmT_int hl (k + 1)).1, take_snoc (by omega), nmN_snoc]
              have : (0 : Int64).toInt = 0 := by decide
              rw [this]; omega
            refine br_f hpos ?_
            rw [nmT_div hl (by omega), nI_1, show l.length - (k + 1) + 1 = l.length - k by omega]
            exact ih f (by omega) (by omega)
        have := lp l.length (l.length + 1) (Nat.lt_succ_self _) (Nat.le_refl _)
        rw [Nat.sub_self, List.take_length] at this
        exact this
end TLe
