/-! PURE SIDE, the model's reader: which word of a sum is here (printed by gen/words108.py). -/
def aW : List (List Nat) := askWs ++ [isWd]
def ixI (o : Option Nat) : Int32 := match o with
  | some i => nI i
  | none => -1
section TWd
variable {τ0 τ : Sto} {B : Byt} {n k o bs : Nat} {C W : List Int32}
theorem hereW_skp (B : Byt) (n k : Nat) (w : List Nat) : hereW B n (skp B n k) w = hereW B n k w := by simp only [hereW, skp_idem]
theorem hereW_of {k' : Nat} (h : skp B n k' = skp B n k) (w : List Nat) : hereW B n k' w = hereW B n k w := by simp only [hereW, h]
theorem T_isHere_st {K : Int32 → Sto → Prop} (hT : TxT τ0 B n) {k' : Nat} (h : RQ τ0 B n τ k' C W o bs) (hs : skp B n k' = skp B n k) {id : Nat} {w : List Nat} (hp : (id, w) ∈ wTab)
    (h1 : hereW B n k w = true → ∀ τ', RQ τ0 B n τ' (skp B n k) C W o bs → K 1 τ') (h0 : hereW B n k w = false → ∀ τ', RQ τ0 B n τ' (skp B n k) C W o bs → K 0 τ') : T_isHere τ id K := by
  refine T_isHere_law hT h hp fun τ1 g => ?_
  rw [hs] at g
  rw [hereW_of hs]
  cases e : hereW B n k w with
  | false => exact h0 e τ1 g
  | true => exact h1 e τ1 g
theorem T_qWordHere_law {K : Int32 → Sto → Prop} (hT : TxT τ0 B n) (h : RQ τ0 B n τ k C W o bs) (hk : ∀ τ', RQ τ0 B n τ' (skp B n k) C W o bs → K (ixI (aW.findIdx? (fun w => hereW B n k w))) τ') : T_qWordHere τ K := by
  unfold T_qWordHere
  refine T_isHere_st (k := k) hT h rfl (id := 81) (w := [119, 111, 114, 116, 104]) (by decide) (fun e0 τ0 g0 => br_f (by decide) ?_) (fun e0 τ0 g0 => br_t rfl ?_)
  · have hh := hk τ0 g0
    rw [show aW.findIdx? (fun w => hereW B n k w) = some 0 by simp [aW, askWs, isWd, List.findIdx?_cons, e0]] at hh
    exact hh
  refine T_isHere_st (k := k) hT g0 (skp_idem B n k) (id := 82) (w := [117, 115, 101]) (by decide) (fun e1 τ1 g1 => br_f (by decide) ?_) (fun e1 τ1 g1 => br_t rfl ?_)
  · have hh := hk τ1 g1
    rw [show aW.findIdx? (fun w => hereW B n k w) = some 1 by simp [aW, askWs, isWd, List.findIdx?_cons, e0, e1]] at hh
    exact hh
  refine T_isHere_st (k := k) hT g1 (skp_idem B n k) (id := 83) (w := [102, 114, 97, 105, 108]) (by decide) (fun e2 τ2 g2 => br_f (by decide) ?_) (fun e2 τ2 g2 => br_t rfl ?_)
  · have hh := hk τ2 g2
    rw [show aW.findIdx? (fun w => hereW B n k w) = some 2 by simp [aW, askWs, isWd, List.findIdx?_cons, e0, e1, e2]] at hh
    exact hh
  refine T_isHere_st (k := k) hT g2 (skp_idem B n k) (id := 84) (w := [98, 114, 101, 97, 107, 115]) (by decide) (fun e3 τ3 g3 => br_f (by decide) ?_) (fun e3 τ3 g3 => br_t rfl ?_)
  · have hh := hk τ3 g3
    rw [show aW.findIdx? (fun w => hereW B n k w) = some 3 by simp [aW, askWs, isWd, List.findIdx?_cons, e0, e1, e2, e3]] at hh
    exact hh
  refine T_isHere_st (k := k) hT g3 (skp_idem B n k) (id := 85) (w := [109, 101, 110, 100, 115]) (by decide) (fun e4 τ4 g4 => br_f (by decide) ?_) (fun e4 τ4 g4 => br_t rfl ?_)
  · have hh := hk τ4 g4
    rw [show aW.findIdx? (fun w => hereW B n k w) = some 4 by simp [aW, askWs, isWd, List.findIdx?_cons, e0, e1, e2, e3, e4]] at hh
    exact hh
  refine T_isHere_st (k := k) hT g4 (skp_idem B n k) (id := 86) (w := [100, 97, 121]) (by decide) (fun e5 τ5 g5 => br_f (by decide) ?_) (fun e5 τ5 g5 => br_t rfl ?_)
  · have hh := hk τ5 g5
    rw [show aW.findIdx? (fun w => hereW B n k w) = some 5 by simp [aW, askWs, isWd, List.findIdx?_cons, e0, e1, e2, e3, e4, e5]] at hh
    exact hh
  refine T_isHere_st (k := k) hT g5 (skp_idem B n k) (id := 87) (w := [103, 108, 117, 101]) (by decide) (fun e6 τ6 g6 => br_f (by decide) ?_) (fun e6 τ6 g6 => br_t rfl ?_)
  · have hh := hk τ6 g6
    rw [show aW.findIdx? (fun w => hereW B n k w) = some 6 by simp [aW, askWs, isWd, List.findIdx?_cons, e0, e1, e2, e3, e4, e5, e6]] at hh
    exact hh
  refine T_isHere_st (k := k) hT g6 (skp_idem B n k) (id := 88) (w := [115, 107, 105, 108, 108]) (by decide) (fun e7 τ7 g7 => br_f (by decide) ?_) (fun e7 τ7 g7 => br_t rfl ?_)
  · have hh := hk τ7 g7
    rw [show aW.findIdx? (fun w => hereW B n k w) = some 7 by simp [aW, askWs, isWd, List.findIdx?_cons, e0, e1, e2, e3, e4, e5, e6, e7]] at hh
    exact hh
  refine T_isHere_st (k := k) hT g7 (skp_idem B n k) (id := 89) (w := [110, 117, 109, 98, 101, 114]) (by decide) (fun e8 τ8 g8 => br_f (by decide) ?_) (fun e8 τ8 g8 => br_t rfl ?_)
  · have hh := hk τ8 g8
    rw [show aW.findIdx? (fun w => hereW B n k w) = some 8 by simp [aW, askWs, isWd, List.findIdx?_cons, e0, e1, e2, e3, e4, e5, e6, e7, e8]] at hh
    exact hh
  refine T_isHere_st (k := k) hT g8 (skp_idem B n k) (id := 90) (w := [102, 111, 114, 103, 101, 100]) (by decide) (fun e9 τ9 g9 => br_f (by decide) ?_) (fun e9 τ9 g9 => br_t rfl ?_)
  · have hh := hk τ9 g9
    rw [show aW.findIdx? (fun w => hereW B n k w) = some 9 by simp [aW, askWs, isWd, List.findIdx?_cons, e0, e1, e2, e3, e4, e5, e6, e7, e8, e9]] at hh
    exact hh
  refine T_isHere_st (k := k) hT g9 (skp_idem B n k) (id := 91) (w := [105, 115]) (by decide) (fun e10 τ10 g10 => br_f (by decide) ?_) (fun e10 τ10 g10 => br_t rfl ?_)
  · have hh := hk τ10 g10
    rw [show aW.findIdx? (fun w => hereW B n k w) = some 10 by simp [aW, askWs, isWd, List.findIdx?_cons, e0, e1, e2, e3, e4, e5, e6, e7, e8, e9, e10]] at hh
    exact hh
  have hh := hk τ10 g10
  rw [show aW.findIdx? (fun w => hereW B n k w) = none by simp [aW, askWs, isWd, List.findIdx?_cons, e0, e1, e2, e3, e4, e5, e6, e7, e8, e9, e10]] at hh
  exact hh
theorem T_isAllowed_law {K : Int32 → Sto → Prop} {tk i : Nat} (ht : tk < 4) (hi : i < 11) (h50 : τ.1 0 50 = nI tk) (hk : K (b1 (alw tk i)) τ) : T_isAllowed τ (nI i) K := by
  unfold T_isAllowed
  rw [h50]
  have h1 : tk = 0 ∨ tk = 1 ∨ tk = 2 ∨ tk = 3 := by omega
  have h2 : i = 0 ∨ i = 1 ∨ i = 2 ∨ i = 3 ∨ i = 4 ∨ i = 5 ∨ i = 6 ∨ i = 7 ∨ i = 8 ∨ i = 9 ∨ i = 10 := by omega
  rcases h1 with rfl | rfl | rfl | rfl <;> rcases h2 with rfl | rfl | rfl | rfl | rfl | rfl | rfl | rfl | rfl | rfl | rfl <;> repeat (first | exact hk | refine br_t (by decide) ?_ | refine br_f (by decide) ?_ | refine bn_t (by decide) ?_ | refine bn_f (by decide) ?_)
theorem T_qWordOf_law {K : Int32 → Sto → Prop} (hT : TxT τ0 B n) (h : RQ τ0 B n τ k C W o bs) {tk lo hi : Nat} {x1 x2 : Int32} (e1 : x1 = nI lo) (e2 : x2 = nI hi) (hlo : lo < 20) (hhi : hi < 20) (ht : tk < 4) (h50 : τ0.1 0 50 = nI tk)
    (hk : ∀ τ', RQ τ0 B n τ' (skp B n k) C W o bs → K (ixI ((aW.findIdx? (fun w => hereW B n k w)).bind (fun i => if lo ≤ i ∧ i < hi ∧ alw tk i = true then some i else none))) τ') : T_qWordOf τ x1 x2 K := by
  subst e1 e2
  refine T_qWordHere_law hT h fun τ1 g => ?_
  have hh := hk τ1 g
  cases e : aW.findIdx? (fun w => hereW B n k w) with
  | none =>
    rw [e] at hh
    by_cases h1 : lo = 0
    · subst h1
      exact br_t (by decide) hh
    · exact br_t (by
        rw [Int32.lt_iff_toInt_lt, nI_toInt (by omega), show (ixI none).toInt = -1 by decide]; omega) hh
  | some i =>
    rw [e] at hh
    have hi11 : i < 11 := by
      have := (List.findIdx?_eq_some_iff_getElem.mp e).1
      exact this
    show ((nI i < nI lo → _) ∧ _)
    by_cases h1 : i < lo
    · refine br_t (nI_lt h1 (by omega)) ?_
      simp only [Option.bind_some] at hh
      rw [if_neg (by omega)] at hh
      exact hh
    · refine br_f (nI_nlt (by omega) (by omega)) ?_
      show ((nI hi ≤ nI i → _) ∧ _)
      by_cases h2 : hi ≤ i
      · refine br_t (nI_le h2 (by omega)) ?_
        simp only [Option.bind_some] at hh
        rw [if_neg (by omega)] at hh
        exact hh
      · refine br_f (nI_ge (by omega) (by omega)) (T_isAllowed_law ht hi11 (by rw [g.fr.1 0 50 (by simp [scrQ])]; exact h50) ?_)
        simp only [Option.bind_some] at hh
        cases ea : alw tk i with
        | false =>
          rw [if_neg (by simp [ea])] at hh
          exact br_t rfl hh
        | true =>
          rw [if_pos ⟨by omega, by omega, ea⟩] at hh
          exact br_f (by decide) hh
theorem T_qAsksWord_law {K : Sto → Prop} {i : Nat} (hi : i < 11) (hk : T_asks τ (81 + i) K) : T_qAsksWord τ (nI i) K := by
  unfold T_qAsksWord
  have h2 : i = 0 ∨ i = 1 ∨ i = 2 ∨ i = 3 ∨ i = 4 ∨ i = 5 ∨ i = 6 ∨ i = 7 ∨ i = 8 ∨ i = 9 ∨ i = 10 := by omega
  rcases h2 with rfl | rfl | rfl | rfl | rfl | rfl | rfl | rfl | rfl | rfl | rfl <;> repeat (first | exact hk | refine br_t (by decide) ?_ | refine br_f (by decide) ?_)
theorem aW_tab : ∀ i, i < 11 → (81 + i, aW.getD i []) ∈ wTab := by decide
end TWd
