/-! COMPONENT, PURE SIDE: on. -/
theorem shl8_I : ∀ b, b < 256 → nI b <<< ((8 : Int32) &&& 31) = nI (256 * b) := by decide +kernel
theorem or_nI (v u : Nat) : nI v ||| nI u = nI (v ||| u) := by
  apply Int32.toBitVec_inj.1
  rw [Int32.toBitVec_or]
  show BitVec.ofNat 32 v ||| BitVec.ofNat 32 u = BitVec.ofNat 32 (v ||| u)
  exact (BitVec.ofNat_or).symm
theorem day_I {b c : Nat} (hb : b < 256) (hc : c < 256) : (nI b <<< ((8 : Int32) &&& 31)) ||| nI c = nI (256 * b + c) := by
  rw [shl8_I b hb, or_nI]
  congr 1
  exact (Nat.two_pow_add_eq_or_of_lt (i := 8) hc b).symm
theorem thOK_iff {B : Byt} {k : Nat} : thOK B k = true ↔ (B k ≤ 2 ∧ B (k + 1) ≤ 99 ∧ B (k + 2) ≤ 99 ∧ B (k + 3) ≤ 99 ∧ B (k + 4) ≤ 1 ∧ (B (k + 4) = 1 → B k = 2)) := by
  unfold thOK
  rw [Bool.and_eq_true, Bool.and_eq_true, Bool.and_eq_true, Bool.and_eq_true, decide_eq_true_eq, decide_eq_true_eq, decide_eq_true_eq, decide_eq_true_eq, decide_eq_true_eq]
  by_cases c : B k = 2
  · rw [if_pos c]; omega
  · rw [if_neg c]; omega
theorem allN_mono {p : Nat → Bool} {t : Nat} (h : allN p t = false) : ∀ n, t ≤ n → allN p n = false
  | 0, hn => by
    have : t = 0 := by omega
    rw [this] at h; exact h
  | n + 1, hn => by
    by_cases c : t = n + 1
    · rw [← c]; exact h
    · have := allN_mono h n (by omega)
      show (allN p n && p n) = false
      rw [this]; rfl
section COn
variable {σ σ' : CS} {a : AS} {K : Int32 → CS → Prop} {n t k : Nat} {B : Byt}
theorem co_byteAt (htp : ∀ i, i < 1600 → gI σ 8 i = sB (B i)) (hB : ∀ i, B i < 256) (hk16 : k < 1600) (hk : K (nI (B k)) σ) : U_X0_byteAt σ (nI k) K := by
  unfold U_X0_byteAt
  rw [nI_clamp (by omega), htp k hk16, sB_255 _ (hB k)]
  exact ⟨vi_ hk16 (by omega), hk⟩
abbrev thP : Nat → Prop := fun i => 75 ≤ i ∧ i < 80
theorem co_thingOn (htp : ∀ i, i < 1600 → gI σ 8 i = sB (B i)) (hB : ∀ i, B i < 256) (ht : t < 8) (hk16 : k + 4 < 1600)
    (hk : ∀ σ', FrX thP σ σ' → (∀ j t', t' ≠ t → gI σ' j t' = gI σ j t') → gI σ' 75 t = nI (B k) → gI σ' 76 t = nI (B (k + 1)) → gI σ' 77 t = nI (B (k + 2)) → gI σ' 78 t = nI (B (k + 3)) → gI σ' 79 t = b1 (decide (B (k + 4) = 1)) → K (b1 (thOK B k)) σ') : U_X0_thingOn σ (nI t) (nI k) K := by
  have v8 : vp_in (nI t) 8 := vi_ ht (by omega)
  have e1 : nI k + 1 = nI (k + 1) := nI_1 k
  have e2 : nI k + 2 = nI (k + 2) := nI_add k 2
  have e3 : nI k + 3 = nI (k + 3) := nI_add k 3
  have e4 : nI k + 4 = nI (k + 4) := nI_add k 4
  have q0 := hB k
  have q1 := hB (k + 1)
  have q2 := hB (k + 2)
  have q3 := hB (k + 3)
  have q4 := hB (k + 4)
  unfold U_X0_thingOn
  rw [e1, e2, e3, e4, nI_clamp (by omega)]
  refine co_byteAt htp hB (by omega) ⟨v8, st_ ?_⟩
  refine co_byteAt (fun i hi => by rw [gI_wi (by omega)]; exact htp i hi) hB (by omega) ⟨v8, st_ ?_⟩
  refine co_byteAt (fun i hi => by rw [gI_wi (by omega), gI_wi (by omega)]; exact htp i hi) hB (by omega) ⟨v8, st_ ?_⟩
  refine co_byteAt (fun i hi => by rw [gI_wi (by omega), gI_wi (by omega), gI_wi (by omega)]; exact htp i hi) hB (by omega) ⟨v8, st_ ?_⟩
  refine co_byteAt (fun i hi => by rw [gI_wi (by omega), gI_wi (by omega), gI_wi (by omega), gI_wi (by omega)]; exact htp i hi) hB (by omega) ?_
  obtain ⟨u, hu⟩ : ∃ u, u = wI (wI (wI (wI σ 75 t (nI (B k))) 76 t (nI (B (k + 1)))) 77 t (nI (B (k + 2)))) 78 t (nI (B (k + 3))) := ⟨_, rfl⟩
  rw [← hu]
  have go : U_X0_thingOn_86 K (nI t) (nI k) (b1 (decide (B (k + 4) = 1))) (nI t) u := by
    unfold U_X0_thingOn_86
    rw [e1, e2, e3, e4, nI_clamp (by omega)]
    refine ⟨v8, st_ ?_⟩
    rw [show vp_nar .boolean (b1 (decide (B (k + 4) = 1))) = b1 (decide (B (k + 4) = 1)) by cases decide (B (k + 4) = 1) <;> rfl]
    obtain ⟨w, hw⟩ : ∃ w, w = wI u 79 t (b1 (decide (B (k + 4) = 1))) := ⟨_, rfl⟩
    rw [← hw]
    have fw : FrX thP σ w := by
      rw [hw, hu]
      refine FrX.wI (FrX.wI (FrX.wI (FrX.wI (FrX.wI (FrX.refl σ) ?_) ?_) ?_) ?_) ?_ <;> exact ⟨by omega, by omega⟩
    have tw : ∀ i, i < 1600 → gI w 8 i = sB (B i) := fun i hi => by
      rw [(fw.2.2 8 (fun z => by have : 75 ≤ 8 ∧ 8 < 80 := z; omega)).2.1]; exact htp i hi
    have w75 : gI w 75 t = nI (B k) := by rw [hw, hu, gI_wn (by omega), gI_wn (by omega), gI_wn (by omega), gI_wn (by omega)]; exact gI_ws
    have w76 : gI w 76 t = nI (B (k + 1)) := by rw [hw, hu, gI_wn (by omega), gI_wn (by omega), gI_wn (by omega)]; exact gI_ws
    have w77 : gI w 77 t = nI (B (k + 2)) := by rw [hw, hu, gI_wn (by omega), gI_wn (by omega)]; exact gI_ws
    have w78 : gI w 78 t = nI (B (k + 3)) := by rw [hw, hu, gI_wn (by omega)]; exact gI_ws
    have w79 : gI w 79 t = b1 (decide (B (k + 4) = 1)) := by rw [hw]; exact gI_ws
    have wo : ∀ j t', t' ≠ t → gI w j t' = gI σ j t' := fun j t' h => by rw [hw, hu, gI_wn (by omega), gI_wn (by omega), gI_wn (by omega), gI_wn (by omega), gI_wn (by omega)]
    have hk2 := hk w fw wo w75 w76 w77 w78 w79
    have no : ¬ thOK B k = true → U_X0_thingOn_148 K (nI t) 0 w := fun z => by
      rw [Bool.not_eq_true] at z
      rw [z] at hk2
      exact br_t rfl hk2
    have tk2 := @thOK_iff B k
    refine co_byteAt tw hB (by omega) ?_
    by_cases c0 : B k ≤ 2
    · refine br_f (show ¬ nI 2 < nI _ from nI_nlt c0 (by omega)) (co_byteAt tw hB (by omega) ?_)
      by_cases c1 : B (k + 1) ≤ 99
      · refine br_f (show ¬ nI 99 < nI _ from nI_nlt c1 (by omega)) (co_byteAt tw hB (by omega) ?_)
        by_cases c2 : B (k + 2) ≤ 99
        · refine br_f (show ¬ nI 99 < nI _ from nI_nlt c2 (by omega)) (co_byteAt tw hB (by omega) ?_)
          by_cases c3 : B (k + 3) ≤ 99
          · refine br_f (show ¬ nI 99 < nI _ from nI_nlt c3 (by omega)) (co_byteAt tw hB (by omega) ?_)
            by_cases c4 : B (k + 4) ≤ 1
            · refine br_f (show ¬ nI 1 < nI _ from nI_nlt c4 (by omega)) (br_f (by decide) ?_)
              rw [nI_clamp (by omega), w79, w75]
              refine ⟨v8, ?_⟩
              by_cases c5 : B (k + 4) = 1
              · rw [decide_eq_true c5]
                refine br_f (by decide) ⟨v8, ?_⟩
                by_cases c6 : B k = 2
                · rw [tk2.mpr ⟨c0, c1, c2, c3, c4, fun _ => c6⟩] at hk2
                  exact bn_f (by rw [c6]; rfl) hk2
                · have : thOK B k = false := by
                    rw [← Bool.not_eq_true]
                    exact fun z => c6 ((tk2.mp z).2.2.2.2.2 c5)
                  rw [this] at hk2
                  exact bn_t (fun z => c6 ((nI_eq (b := 2) (by omega) (by omega)).mp z)) hk2
              · rw [decide_eq_false c5]
                rw [tk2.mpr ⟨c0, c1, c2, c3, c4, fun z => absurd z c5⟩] at hk2
                exact br_t rfl hk2
            · exact br_t (show nI 1 < nI _ from nI_lt (by omega) (by omega)) (no (fun z => c4 (tk2.mp z).2.2.2.2.1))
          · exact br_t (show nI 99 < nI _ from nI_lt (by omega) (by omega)) (no (fun z => c3 (tk2.mp z).2.2.2.1))
        · exact br_t (show nI 99 < nI _ from nI_lt (by omega) (by omega)) (no (fun z => c2 (tk2.mp z).2.2.1))
      · exact br_t (show nI 99 < nI _ from nI_lt (by omega) (by omega)) (no (fun z => c1 (tk2.mp z).2.1))
    · exact br_t (show nI 2 < nI _ from nI_lt (by omega) (by omega)) (no (fun z => c0 (tk2.mp z).1))
  by_cases c : B (k + 4) = 1
  · rw [decide_eq_true c] at go
    exact bn_f (by rw [c]; rfl) go
  · rw [decide_eq_false c] at go
    exact bn_t (fun z => c ((nI_eq (b := 1) (by omega) (by omega)).mp z)) go
end COn
