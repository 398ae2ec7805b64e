/-! PURE SIDE: what things are by the island's laws; the model tells it so. -/
def evC (I : Isl) (fr : Int32 × Int32) (s : Nat → Nat) (t : Nat) (sk : Int32) : Env := evE I fr s t sk (fun _ => 0)
def clN (lo : Nat) (v : Int64) : Nat := if v.toInt < lo then lo else if 99 < v.toInt then 99 else v.toInt.toNat
def spStands (I : Isl) (fr : Int32 × Int32) (s : Nat → Nat) (t : Nat) : Bool := decide (s (1 + 5 * t) = 2) && (match iT I 0 with
  | none => decide (0 < s (3 + 5 * t))
  | some v => v (evC I fr s t 0))
def spTakes (I : Isl) (fr : Int32 × Int32) (s : Nat → Nat) (t m : Nat) : Nat := match iV I 2 with
  | none => 4
  | some v => clN 1 (v (evC I fr s t (nI (iX I (24 + 2 * m)))))
def spFine (I : Isl) (fr : Int32 × Int32) (s : Nat → Nat) (t m : Nat) : Nat := match iV I 3 with
  | none => iX I (24 + 2 * m)
  | some v => clN 0 (v (evC I fr s t (nI (iX I (24 + 2 * m)))))
def spFirst (I : Isl) (fr : Int32 × Int32) (s : Nat → Nat) (t : Nat) : Int64 := match iV I 4 with
  | none => (nI (iX I (3 * t + 1))).toInt64
  | some v => v (evC I fr s t 0)
def spFalls (I : Isl) (fr : Int32 × Int32) (s : Nat → Nat) (t : Nat) : Bool := match iT I 1 with
  | none => false
  | some v => v (evC I fr s t 0)
def spTrial (I : Isl) (s : Nat → Nat) (k t : Nat) : Bool := match iT I (5 + k) with
  | none => false
  | some v => v (evC I (-1, 0) s t 0)
theorem clN_le {lo : Nat} {v : Int64} (h : lo ≤ 99) : lo ≤ clN lo v ∧ clN lo v ≤ 99 := by
  unfold clN
  split
  · omega
  · split <;> omega
section TSt
variable {I : Isl} {fr : Int32 × Int32} {s : Nat → Nat} {τ τ' : Sto} {t w m : Nat}
theorem evE_bd (h : EvC I fr s τ) (ht : t < iC I 0) {k : Nat} {sk : Int32} (lk : Int64 → Int64) (hk : k < 10) (hsk : k = 7 → ∃ x, x ≤ 9 ∧ sk = nI x) : BdL ((evE I fr s t sk lk).1 k) := by
  obtain ⟨o1, o2, o3, o4, o5, o6⟩ := h
  have hx := o1.2.2.1 t ht
  have hc := o1.1
  have hd : k = 0 ∨ k = 1 ∨ k = 2 ∨ k = 3 ∨ k = 4 ∨ k = 5 ∨ k = 6 ∨ k = 7 ∨ k = 8 ∨ k = 9 := by omega
  rcases hd with rfl | rfl | rfl | rfl | rfl | rfl | rfl | rfl | rfl | rfl
  · exact nIb (x := iX I (3 * t)) (by omega)
  · exact nIb (x := iX I (3 * t + 1)) (by omega)
  · show BdL (if nI t = fr.1 then fr.2 else nI (iX I (3 * t + 2))).toInt64
    by_cases e : nI t = fr.1
    · rw [if_pos e]
      obtain ⟨-, f, hf, hf2⟩ := o6 (by rw [← e]; exact fun z => nI_m1 (by omega) z.symm)
      rw [hf2]; exact nIb (by omega)
    · rw [if_neg e]; exact nIb (by omega)
  · exact nIb (x := s (2 + 5 * t)) (by have := o4.2.1 (2 + 5 * t) (by omega) (by omega); omega)
  · exact nIb (x := s (3 + 5 * t)) (by have := o4.2.1 (3 + 5 * t) (by omega) (by omega); omega)
  · exact nIb (x := s 0) o4.1
  · exact nIb (x := s (4 + 5 * t)) (by have := o4.2.1 (4 + 5 * t) (by omega) (by omega); omega)
  · obtain ⟨x, hx, rfl⟩ := hsk rfl
    exact nIb (x := x) (by omega)
  · exact nIb (x := t) (by omega)
  · exact nIb (x := s (5 + 5 * t)) (by have := o4.2.1 (5 + 5 * t) (by omega) (by omega); omega)
theorem alw_lt {tk k : Nat} (htk : tk ≠ 3) (h : alw tk k = true) : k < 8 ∧ (k = 7 → tk = 2) := by
  unfold alw at h
  by_cases h6 : k < 6
  · omega
  · rw [decide_eq_false h6, Bool.false_or] at h
    by_cases h1 : tk = 1
    · rw [if_pos h1, decide_eq_true_eq] at h; omega
    · rw [if_neg h1] at h
      by_cases h2 : tk = 2
      · rw [if_pos h2, decide_eq_true_eq] at h; omega
      · rw [if_neg h2, decide_eq_false htk, Bool.false_and] at h; cases h
theorem codesTell_law {K : Int64 → Sto → Prop} {c : List Int32} {v : Int64} (h : EvC I fr s τ) (ht : t < iC I 0) (hw : w < 10) (htk : kbW w ≠ 3) (hcod : CodT τ 10 1600 1600 w c) (hc : NoL (kbW w) c) (hsk : kbW w = 2 → ∃ x, x ≤ 9 ∧ τ.1 0 55 = nI x)
    (hv : runC (evE I fr s t (τ.1 0 55) (fun _ => 0)) c [] = some [v]) (hk : ∀ τ', FrE τ τ' → K v τ') : T_codesTell τ (nI w) (nI t) K := by
  obtain ⟨a, q1, q2, q3, q4⟩ := hcod
  unfold T_codesTell
  refine T_kindBy_law hw (st_ (st_ ?_))
  have f1 : FrE τ (sI (sI τ 0 50 (nI (kbW w))) 0 98 0) := ((FrE.refl τ).w (by omega)).w (by omega)
  have e55 : (sI (sI τ 0 50 (nI (kbW w))) 0 98 0).1 0 55 = τ.1 0 55 := by rw [sI_ne (by omega), sI_ne (by omega)]
  have e98 : (sI (sI τ 0 50 (nI (kbW w))) 0 98 0).1 0 98 = 0 := sI_same ..
  generalize sI (sI τ 0 50 (nI (kbW w))) 0 98 0 = τ1 at f1 e55 e98 ⊢
  rw [show (10 : Int32) + nI w = nI (10 + w) from nI_add 10 w, nI_clamp (by omega), f1.1 46 _ (by omega), q2]
  refine ⟨vi_ (by omega) (by omega), c.length + 1, ?_⟩
  refine codes_loop (tk := kbW w) (a := a) (c := c) (e := evE I fr s t (τ.1 0 55) (fun _ => 0)) (v := v) (τ0 := τ1) htk (h.fr_ f1) ht hw hc q1 (fun k hk10 hal => ⟨by rw [e55]; rfl, evE_bd h ht _ hk10 (fun h7 => ?_)⟩) (fun k hal => by have := alw_lt htk hal; omega) (by rw [f1.1 47 _ (by omega)]; exact q3) (fun i hi => by rw [f1.1 48 _ (by omega)]; exact q4 i hi) (fun τ' f' => hk τ' (f1.trans f')) c.length _ 0 τ1 [] rfl (by omega) (by omega) ⟨⟨fun _ _ _ => rfl, fun _ _ _ => rfl⟩, e98, fun i hi => by cases hi⟩ (by simp) hv
  exact hsk ((alw_lt htk hal).2 h7)
theorem ev_agree {tk : Nat} {sk sk' : Int32} (htk : tk ≠ 3) (h : tk = 2 → sk = sk') : ∀ k, alw tk k = true → hdL ((evE I fr s t sk (fun _ => 0)).1 k) = hdL ((evC I fr s t sk').1 k) := by
  intro k hal
  have ha := alw_lt htk hal
  by_cases h7 : k = 7
  · subst h7; rw [h (ha.2 rfl)]; rfl
  · unfold evC evE
    dsimp only
    rw [if_neg (c := k = 7) h7, if_neg (c := k = 7) h7]
theorem tell_T {K : Int64 → Sto → Prop} {v : TT} (h : EvC I fr s τ) (ht : t < iC I 0) (hw : w < 5 + iC I 2) (hwt : w ≠ 2 ∧ w ≠ 3 ∧ w ≠ 4) (hT : iT I w = some v) (hk : ∀ τ', FrE τ τ' → K (b1L (v (evC I fr s t 0))) τ') : T_codesTell τ (nI w) (nI t) K := by
  have hc5 := h.c
  obtain ⟨c, q1, q2⟩ := h.2.1.2.2.2.2.2.1 w v hw hT
  have hkb : kbW w = 0 ∨ kbW w = 1 := by
    unfold kbW
    by_cases c1 : w = 1 ∨ w = 4
    · rw [if_pos c1]; simp
    · rw [if_neg c1, if_neg (by omega)]; simp
  refine codesTell_law h ht (by omega) (by omega) q1 q2.2 (fun z => by omega) (q2.1 _ []) fun τ' f' => ?_
  rw [q2.agree (ev_agree (sk' := 0) (by omega) (fun z => by omega)) (fun z => by omega)]
  exact hk τ' f'
theorem tell_V {K : Int64 → Sto → Prop} {v : VV} {sk : Int32} (h : EvC I fr s τ) (ht : t < iC I 0) (hw : w = 2 ∨ w = 3 ∨ w = 4) (hV : iV I w = some v) (hsk : w ≠ 4 → τ.1 0 55 = sk ∧ ∃ x, x ≤ 9 ∧ sk = nI x) (hk : ∀ τ', FrE τ τ' → BdL (v (evC I fr s t sk)) → K (v (evC I fr s t sk)) τ') : T_codesTell τ (nI w) (nI t) K := by
  obtain ⟨c, q1, q2⟩ := h.2.1.2.2.2.2.2.2 w v (by omega) hV
  have hkb : (kbW w = 2 ∧ w ≠ 4) ∨ (kbW w = 0 ∧ w = 4) := by rcases hw with rfl | rfl | rfl <;> decide
  refine codesTell_law h ht (by omega) (by omega) q1 q2.2 (fun z => ?_) (q2.1.1 _ []) fun τ' f' => ?_
  · obtain ⟨e, x, hx, hx2⟩ := hsk (by omega)
    exact ⟨x, hx, by rw [e, hx2]⟩
  · rw [q2.agree (ev_agree (sk' := sk) (by omega) (fun z => (hsk (by omega)).1)) (fun z => by omega)]
    exact hk τ' f' (q2.1.2 _)
theorem T_isTold_law {K : Int32 → Sto → Prop} (h : EvC I fr s τ) (hw : w < 5) (h0 : iT I w = none → iV I w = none → K 0 τ) (h1 : (iT I w).isSome = true ∨ (iV I w).isSome = true → K 1 τ) : T_isTold τ (nI w) K := by
  obtain ⟨o1, o2, -⟩ := h
  unfold T_isTold
  rw [show (10 : Int32) + nI w = nI (10 + w) from nI_add 10 w, nI_clamp (by omega)]
  refine ⟨vi_ (by omega) (by omega), ?_⟩
  have told : (∃ c, CodT τ 10 1600 1600 w c) → ¬ τ.1 46 (10 + w) = -1 := by
    rintro ⟨c, a, q1, q2, -⟩ z
    rw [q2] at z
    exact nI_m1 (by omega) z.symm
  cases hT : iT I w with
  | some v =>
    obtain ⟨c, q1, -⟩ := o2.2.2.2.2.2.1 w v (by omega) hT
    exact br_f (told ⟨c, q1⟩) (h1 (Or.inl (by rw [hT]; rfl)))
  | none =>
    cases hV : iV I w with
    | some v =>
      obtain ⟨c, q1, -⟩ := o2.2.2.2.2.2.2 w v hw hV
      exact br_f (told ⟨c, q1⟩) (h1 (Or.inr (by rw [hV]; rfl)))
    | none => exact br_t (o2.2.2.2.2.1 w hw hT hV) (h0 hT hV)
theorem T_doesStand_law {K : Int32 → Sto → Prop} (h : EvC I fr s τ) (ht : t < iC I 0) (hk : ∀ τ', FrE τ τ' → K (b1 (spStands I fr s t)) τ') : T_doesStand τ (nI t) K := by
  have hc := h.c
  have hb := h.2.2.2.1.2.1 (1 + 5 * t) (by omega) (by omega)
  have hb3 := h.2.2.2.1.2.1 (3 + 5 * t) (by omega) (by omega)
  refine T_stateOf_law h (by omega) ?_
  by_cases e2 : s (1 + 5 * t) = 2
  · refine br_t (by rw [e2]; rfl) (T_isTold_law (w := 0) h (by omega) (fun hT hV => br_t rfl (T_mendsOf_law h (by omega) ?_)) (fun hs => br_f (by decide) ?_))
    · have hs : spStands I fr s t = decide (0 < s (3 + 5 * t)) := by unfold spStands; rw [hT, decide_eq_true e2, Bool.true_and]
      have hkk := hk τ (FrE.refl τ)
      rw [hs] at hkk
      by_cases h0 : s (3 + 5 * t) = 0
      · rw [h0] at hkk ⊢; exact br_t (by decide) hkk
      · rw [decide_eq_true (by omega)] at hkk
        exact br_f (nI_nle (by omega) (by omega)) hkk
    · cases hT : iT I 0 with
      | none =>
        rw [hT, h.1.2.2.2.2.2.2.2.1] at hs
        rcases hs with h | h <;> cases h
      | some v =>
        refine tell_T (w := 0) h ht (by omega) (by omega) hT fun τ' f' => ?_
        have hs : spStands I fr s t = v (evC I fr s t 0) := by unfold spStands; rw [hT, decide_eq_true e2, Bool.true_and]
        have hkk := hk τ' f'
        rw [hs] at hkk
        cases hv : v (evC I fr s t 0) with
        | true => rw [hv] at hkk; exact bn_f rfl hkk
        | false => rw [hv] at hkk; exact bn_t (by decide) hkk
  · have hs : spStands I fr s t = false := by unfold spStands; rw [decide_eq_false e2, Bool.false_and]
    have hkk := hk τ (FrE.refl τ)
    rw [hs] at hkk
    exact br_f (fun z => e2 ((nI_eq (b := 2) (by omega) (by omega)).mp z)) hkk
theorem clN_I {lo : Nat} {v : Int64} (hlo : lo ≤ 99) : nI (clN lo v) = if v.toInt < lo then nI lo else if 99 < v.toInt then 99 else v.toInt32 := by
  unfold clN
  split
  · rfl
  · split
    · rfl
    · rename_i h1 h2
      apply Int32.toInt_inj.mp
      rw [nI_toInt (by omega), Int64.toInt_toInt32, Int.bmod_eq_of_le_mul_two (by omega) (by omega)]
      omega
theorem L_le {a : Int64} {k : Int} {c : Int64} (hc : c.toInt = k) : c ≤ a ↔ k ≤ a.toInt := by rw [Int64.le_iff_toInt_le, hc]
theorem L_ge {a : Int64} {k : Int} {c : Int64} (hc : c.toInt = k) : a ≤ c ↔ a.toInt ≤ k := by rw [Int64.le_iff_toInt_le, hc]
theorem T_hoursOf_law {K : Int32 → Sto → Prop} (h : EvC I fr s τ) (ht : t < iC I 0) (hm : m < iC I 1) (hk : ∀ τ', FrE τ τ' → K (nI (spTakes I fr s t m)) τ') : T_hoursOf τ (nI t) (nI m) K := by
  have hc := h.c
  have hx := h.1.2.2.2.1 m hm
  refine T_isTold_law (w := 2) h (by omega) (fun hT hV => bn_f rfl ?_) (fun hs => bn_t (by decide) ?_)
  · have := hk τ (FrE.refl τ)
    rw [show spTakes I fr s t m = 4 by unfold spTakes; rw [hV]] at this
    exact this
  · cases hV : iV I 2 with
    | none =>
      rw [hV, h.1.2.2.2.2.2.2.1.1] at hs
      rcases hs with h | h <;> cases h
    | some v =>
      rw [show (8 : Int32) + 2 * nI m = nI (8 + 2 * m) from i2 m 8, nI_clamp (by omega), h.2.1.2.2.2.1 (2 * m) (by omega)]
      refine ⟨vi_ (by omega) (by omega), st_ ?_⟩
      have f1 : FrE τ (sI τ 0 55 (nI (iX I (24 + 2 * m)))) := (FrE.refl τ).w (by omega)
      refine tell_V (w := 2) (sk := nI (iX I (24 + 2 * m))) (h.fr_ f1) ht (by omega) hV (fun _ => ⟨sI_same .., _, hx.1, rfl⟩) fun τ' f' hbd => ?_
      have hkk := hk τ' (f1.trans f')
      rw [show spTakes I fr s t m = clN 1 (v (evC I fr s t (nI (iX I (24 + 2 * m))))) by unfold spTakes; rw [hV], clN_I (by omega)] at hkk
      generalize v (evC I fr s t (nI (iX I (24 + 2 * m)))) = y at hkk ⊢
      rw [L_le (k := 1) rfl, L_ge (k := 99) rfl]
      by_cases c1 : 1 ≤ y.toInt
      · refine br_t c1 ?_
        rw [if_neg (by omega)] at hkk
        by_cases c2 : y.toInt ≤ 99
        · rw [if_neg (by omega)] at hkk; exact br_t c2 hkk
        · rw [if_pos (by omega)] at hkk; exact br_f c2 hkk
      · rw [if_pos (by omega)] at hkk; exact br_f c1 hkk
theorem T_fineOf_law {K : Int32 → Sto → Prop} (h : EvC I fr s τ) (ht : t < iC I 0) (hm : m < iC I 1) (hk : ∀ τ', FrE τ τ' → K (nI (spFine I fr s t m)) τ') : T_fineOf τ (nI t) (nI m) K := by
  have hc := h.c
  have hx := h.1.2.2.2.1 m hm
  unfold T_fineOf
  rw [show (8 : Int32) + 2 * nI m = nI (8 + 2 * m) from i2 m 8, nI_clamp (by omega), h.2.1.2.2.2.1 (2 * m) (by omega)]
  refine ⟨vi_ (by omega) (by omega), st_ ?_⟩
  have f1 : FrE τ (sI τ 0 55 (nI (iX I (24 + 2 * m)))) := (FrE.refl τ).w (by omega)
  have h1 := h.fr_ f1
  refine T_isTold_law (w := 3) h1 (by omega) (fun hT hV => br_t rfl ?_) (fun hs => br_f (by decide) ?_)
  · have hkk := hk _ f1
    rw [show spFine I fr s t m = iX I (24 + 2 * m) by unfold spFine; rw [hV]] at hkk
    rw [sI_same]
    unfold T_fineOf_37
    rw [L_le (k := 0) rfl, L_ge (k := 99) rfl, Int32.toInt_toInt64, nI_toInt (by omega)]
    refine br_t (by omega) (br_t (by omega) ?_)
    rw [show (nI (iX I (24 + 2 * m))).toInt64.toInt32 = nI (iX I (24 + 2 * m)) from Int32.toInt32_toInt64 _]
    exact hkk
  · cases hV : iV I 3 with
    | none =>
      rw [hV, h.1.2.2.2.2.2.2.1.2.1] at hs
      rcases hs with h | h <;> cases h
    | some v =>
      refine tell_V (w := 3) (sk := nI (iX I (24 + 2 * m))) h1 ht (by omega) hV (fun _ => ⟨sI_same .., _, hx.1, rfl⟩) fun τ' f' hbd => ?_
      have hkk := hk τ' (f1.trans f')
      rw [show spFine I fr s t m = clN 0 (v (evC I fr s t (nI (iX I (24 + 2 * m))))) by unfold spFine; rw [hV], clN_I (by omega)] at hkk
      generalize v (evC I fr s t (nI (iX I (24 + 2 * m)))) = y at hkk ⊢
      unfold T_fineOf_37
      rw [L_le (k := 0) rfl, L_ge (k := 99) rfl]
      by_cases c1 : 0 ≤ y.toInt
      · refine br_t c1 ?_
        rw [if_neg (by omega)] at hkk
        by_cases c2 : y.toInt ≤ 99
        · rw [if_neg (by omega)] at hkk; exact br_t c2 hkk
        · rw [if_pos (by omega)] at hkk; exact br_f c2 hkk
      · rw [if_pos (by omega)] at hkk; exact br_f c1 hkk
theorem T_firstOf_law {K : Int64 → Sto → Prop} (h : EvC I fr s τ) (ht : t < iC I 0) (hk : ∀ τ', FrE τ τ' → BdL (spFirst I fr s t) → K (spFirst I fr s t) τ') : T_firstOf τ (nI t) K := by
  have hx := h.1.2.2.1 t ht
  refine T_isTold_law (w := 4) h (by omega) (fun hT hV => br_t rfl (T_useOf_law h ht ?_)) (fun hs => br_f (by decide) ?_)
  · have hkk := hk τ (FrE.refl τ)
    rw [show spFirst I fr s t = (nI (iX I (3 * t + 1))).toInt64 by unfold spFirst; rw [hV]] at hkk
    exact hkk (nIb (by omega))
  · cases hV : iV I 4 with
    | none =>
      rw [hV, h.1.2.2.2.2.2.2.1.2.2] at hs
      rcases hs with h | h <;> cases h
    | some v =>
      refine tell_V (w := 4) (sk := 0) h ht (by omega) hV (fun z => absurd rfl z) fun τ' f' hbd => ?_
      have hkk := hk τ' f'
      rw [show spFirst I fr s t = v (evC I fr s t 0) by unfold spFirst; rw [hV]] at hkk
      exact hkk hbd
end TSt
