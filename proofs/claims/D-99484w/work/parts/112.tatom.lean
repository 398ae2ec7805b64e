/-! PURE SIDE, the model's reader: one part. -/
def wHe (B : Byt) (n k : Nat) : List Nat := wd B (skp B n k) (wEn B n (skp B n k))
def aIx (B : Byt) (n k : Nat) : Option Nat := askWs.findIdx? (fun w => decide (wHe B n k = w))
theorem hereW_eq (B : Byt) (n k : Nat) (w : List Nat) : hereW B n k w = (okW B n (skp B n k) && decide (wHe B n k = w)) := rfl
theorem aIx_lt {B : Byt} {n k j : Nat} (h : aIx B n k = some j) : j < 10 ∧ wHe B n k = askWs.getD j [] := by
  obtain ⟨h1, h2, -⟩ := List.findIdx?_eq_some_iff_getElem.mp h
  refine ⟨h1, ?_⟩
  rw [decide_eq_true_eq] at h2
  rw [h2, List.getD_eq_getElem?_getD, List.getElem?_eq_getElem h1]
  rfl
theorem wIx_no {B : Byt} {n k : Nat} (h : okW B n (skp B n k) = false) : aW.findIdx? (fun w => hereW B n k w) = none := by
  rw [List.findIdx?_eq_none_iff]
  intro w _
  simp [hereW_eq, h]
theorem wIx_ok {B : Byt} {n k : Nat} (h : okW B n (skp B n k) = true) : aW.findIdx? (fun w => hereW B n k w) = (aIx B n k).or (if wHe B n k = isWd then some 10 else none) := by
  have e : (fun w => hereW B n k w) = (fun w => decide (wHe B n k = w)) := by funext w; simp [hereW_eq, h]
  rw [e]
  unfold aW
  rw [List.findIdx?_append]
  show ((aIx B n k).or _) = _
  congr 1
  by_cases hi : wHe B n k = isWd
  · rw [if_pos hi]; simp [List.findIdx?_cons, hi, askWs]
  · rw [if_neg hi]; simp [List.findIdx?_cons, hi]
theorem askWs_is : ∀ j, j < 10 → askWs.getD j [] ≠ isWd ∧ askWs.getD j [] ≠ minWd ∧ askWs.getD j [] ≠ maxWd := by decide
/-- a word with a part behind it -/
def isOf (B : Byt) (n k tk : Nat) : Bool := okW B n (skp B n k) && decide (tk = 3 ∧ wHe B n k = isWd)
theorem wIx_of {B : Byt} {n k tk : Nat} (ht : tk < 4) : (aW.findIdx? (fun w => hereW B n k w)).bind (fun i => if 10 ≤ i ∧ i < 11 ∧ alw tk i = true then some i else none) = if isOf B n k tk = true then some 10 else none := by
  cases ho : okW B n (skp B n k) with
  | false => rw [wIx_no ho]; simp [isOf, ho]
  | true =>
    rw [wIx_ok ho]
    cases ha : aIx B n k with
    | some j =>
      obtain ⟨h1, h2⟩ := aIx_lt ha
      have h3 := (askWs_is j h1).1
      simp only [Option.some_or, Option.bind_some]
      rw [if_neg (by omega), if_neg]
      simp only [isOf, ho, h2, Bool.true_and, decide_eq_true_eq]
      exact fun z => h3 z.2
    | none =>
      simp only [Option.none_or]
      by_cases hi : wHe B n k = isWd
      · rw [if_pos hi, Option.bind_some]
        by_cases h3 : tk = 3
        · subst h3
          rw [if_pos (by decide), if_pos (by simp [isOf, ho, hi])]
        · rw [if_neg, if_neg (by simp [isOf, h3])]
          rintro ⟨-, -, h⟩
          have : tk = 0 ∨ tk = 1 ∨ tk = 2 := by omega
          rcases this with rfl | rfl | rfl <;> exact absurd h (by decide)
      · rw [if_neg hi, if_neg (by simp [isOf, hi])]; rfl
theorem wIx_part {B : Byt} {n k tk : Nat} : (aW.findIdx? (fun w => hereW B n k w)).bind (fun i => if 0 ≤ i ∧ i < 10 ∧ alw tk i = true then some i else none) = if okW B n (skp B n k) = true ∧ (aIx B n k).any (alw tk) = true then aIx B n k else none := by
  cases ho : okW B n (skp B n k) with
  | false => rw [wIx_no ho]; simp
  | true =>
    rw [wIx_ok ho]
    cases ha : aIx B n k with
    | some j =>
      obtain ⟨h1, h2⟩ := aIx_lt ha
      simp only [Option.some_or, Option.bind_some, Option.any_some, true_and]
      by_cases hj : alw tk j = true
      · rw [if_pos ⟨by omega, h1, hj⟩, if_pos hj]
      · rw [if_neg (fun z => hj z.2.2), if_neg hj]
    | none =>
      simp only [Option.none_or, Option.any_none]
      by_cases hi : wHe B n k = isWd
      · rw [if_pos hi, Option.bind_some, if_neg (by omega)]; simp
      · rw [if_neg hi]; simp
section TP
variable {τ0 τ : Sto} {B : Byt} {n k o bs tk : Nat} {C W : List Int32} {K : Sto → Prop} {x1 : Int32} {A : Nat → Rs (VV × Nat)}
theorem P_step {K' : Sto → Prop} {g : Nat} (hT : TxT τ0 B n) (ht : tk < 4) (h50 : τ0.1 0 50 = nI tk) (h : RQ τ0 B n τ k C W o bs)
    (ha : bt B n (skp B n k) = 40 → ∀ τ', RQ τ0 B n τ' (skp B n k) C W o bs → T_qOpens τ' 20 (τ'.1 0 2) (fun τ28 => ∀ τ29 : Sto, τ29 = sI τ28 0 2 ((τ28.1 0 2) + 1) → T_qPartTold_2 K' g 1 τ29))
    (hb : bt B n (skp B n k) ≠ 40 → hereW B n k minWd = true ∨ hereW B n k maxWd = true → ∀ τ', RQ τ0 B n τ' (skp B n k) C W o bs → T_qPartTold_78 K' (T_qPartTold_2 K' g) 1 τ')
    (hc : bt B n (skp B n k) ≠ 40 → hereW B n k minWd = false → hereW B n k maxWd = false → isOf B n k tk = true → ∀ τ', RQ τ0 B n τ' (skp B n k) C W o bs → T_qOpens τ' 60 (τ'.1 0 2) (fun τ26 => T_qAsksWord τ26 10 (fun τ27 => T_qPartTold_2 K' g 1 τ27)))
    (hd : bt B n (skp B n k) ≠ 40 → hereW B n k minWd = false → hereW B n k maxWd = false → isOf B n k tk = false → ∀ τ', RQ τ0 B n τ' (skp B n k) C W o bs → T_qPartTold_2 K' g 0 τ') : T_qPartTold_2 K' (g + 1) 1 τ := by
  unfold T_qPartTold_2
  refine br_f (by decide) (bn_f h.bad (T_look_law hT h fun τ1 g1 => T_qWordOf_law (tk := tk) (lo := 10) (hi := 11) hT g1 rfl rfl (by omega) (by omega) ht h50 fun τ2 g2 => ?_))
  rw [skp_idem] at g2
  have e1 : (fun w => hereW B n (skp B n k) w) = (fun w => hereW B n k w) := by funext w; exact hereW_skp B n k w
  rw [e1, wIx_of ht, show (40 : Int32) = nI 40 from rfl, cI_eq (bt_le hT.2.2.2.1) (by omega)]
  by_cases e40 : bt B n (skp B n k) = 40
  · exact bn_f e40 (ha e40 τ2 g2)
  · refine bn_t e40 (T_isHere_st (k := k) hT g2 (skp_idem B n k) (id := 79) (w := minWd) (by decide) (fun e τ3 g3 => bn_t (by decide) (hb e40 (Or.inl e) τ3 g3)) (fun em τ3 g3 => bn_f rfl ?_))
    refine T_isHere_st (k := k) hT g3 (skp_idem B n k) (id := 80) (w := maxWd) (by decide) (fun e τ4 g4 => br_f (by decide) (hb e40 (Or.inr e) τ4 g4)) (fun eM τ4 g4 => br_t rfl ?_)
    cases eo : isOf B n k tk with
    | true => exact br_f (by decide) (hc e40 em eM eo τ4 g4)
    | false => exact br_t (by decide) (hd e40 em eM eo τ4 g4)
/-- a number or a word without a part behind it -/
theorem P_part {f g : Nat} (hT : TxT τ0 B n) (ht : tk < 4) (h50 : τ0.1 0 50 = nI tk) (h : RQ τ0 B n τ (skp B n k) C W o bs) (hf : n - k < f) (hg : 0 < g) (hz : C.length + W.length ≤ k) (hkn : k ≤ n)
    (h1 : okW B n (skp B n k) = true → ∀ j, aIx B n k = some j → alw tk j = true → GoE τ0 B n bs K x1 (wEn B n (skp B n k)) (C ++ [nI (40 + j)]) W o)
    (h2 : ¬ (okW B n (skp B n k) = true ∧ (aIx B n k).any (alw tk) = true) → ∀ v q, pNum B n k 0 9999 = .inr (v, q) → GoE τ0 B n bs K x1 q (C ++ [nI (1000 + v)]) W o)
    (h3 : ¬ (okW B n (skp B n k) = true ∧ (aIx B n k).any (alw tk) = true) → ∀ kd pl, pNum B n k 0 9999 = .inl (kd, pl) → FFs τ0 1601 K kd pl) : T_qPartTold_2 (PKs K x1 f) g 0 τ := by
  have hn := hT.1
  obtain ⟨g, rfl⟩ : ∃ g', g = g' + 1 := ⟨g - 1, by omega⟩
  have hsk := skp_ge B n k
  have hnum : pNum B n (skp B n k) 0 9999 = pNum B n k 0 9999 := by unfold pNum; rw [skp_idem]
  have fin : ∀ (q : Nat) (C' : List Int32) (τ' : Sto), k < q → GoE τ0 B n bs K x1 q C' W o → RQ τ0 B n τ' q C' W o bs → T_qEndsPart τ' (PKs K x1 f) := by
    intro q C' τ' hq hE g'
    have := g'.kn
    exact hE f _ τ' (by omega) (fun τ'' C'' W'' o'' g'' hG => bn_f g''.bad ⟨n - q + 1, hG _ (by omega)⟩) g'
  unfold T_qPartTold_2
  refine br_t rfl ?_
  unfold T_qPartTold_186
  refine br_t h.bad (T_qWordOf_law (tk := tk) (lo := 0) (hi := 10) hT h rfl rfl (by omega) (by omega) ht h50 fun τ2 g2 => ?_)
  rw [skp_idem] at g2
  have e1 : (fun w => hereW B n (skp B n k) w) = (fun w => hereW B n k w) := by funext w; exact hereW_skp B n k w
  rw [e1, wIx_part]
  by_cases hp : okW B n (skp B n k) = true ∧ (aIx B n k).any (alw tk) = true
  · rw [if_pos hp]
    cases ha : aIx B n k with
    | none => rw [ha] at hp; exact absurd hp.2 (by simp)
    | some j =>
      obtain ⟨hj, hw⟩ := aIx_lt ha
      rw [ha] at hp
      have hal : alw tk j = true := by simpa using hp.2
      show ((nI j = -1 → _) ∧ _)
      refine br_f (fun z => nI_m1 (by omega) z.symm) (T_qAsksWord_law (by omega) ?_)
      have hhere : hereW B n (skp B n k) (aW.getD j []) = true := by
        rw [hereW_skp, hereW_eq, hp.1, hw]
        have : ∀ j, j < 10 → aW.getD j [] = askWs.getD j [] := by decide
        simp only [this j hj, decide_true, Bool.and_self]
      refine T_asks_law hT g2 (aW_tab j (by omega)) (fun q e τ3 g3 => ?_) (fun kd pl e => by simp only [pWd, hhere, if_true] at e; cases e)
      simp only [pWd, hhere, if_true] at e
      have e := Sum.inr.inj e
      rw [skp_idem] at e
      subst e
      have hpl : pL (bt B n (skp B n k)) = true := by have := hp.1; simp only [okW, Bool.and_eq_true] at this; exact this.1
      have hgt := wEn_gt hpl
      unfold T_qPartTold_212
      refine br_f (fun z => nI_m1 (by omega) z.symm) ?_
      have hle := g3.kn
      show T_qCode τ3 (nI 40 + nI j) _
      rw [nI_add]
      exact T_qCode_law g3 (by omega) _ fun τ4 g4 => fin _ _ τ4 (by omega) (h1 hp.1 j ha hal) g4
  · rw [if_neg hp]
    refine br_t rfl ?_
    unfold T_qPartTold_212
    refine br_t rfl (T_number_law hT g2 (lo := 0) (hi := 9999) rfl rfl (by omega) (by omega) (fun v q e τ3 g3 => ?_) (fun kd pl e r τ3 g3 => ?_))
    · rw [hnum] at e
      have hq : k < q ∧ v ≤ 9999 := by
        unfold pNum at e
        dsimp only at e
        by_cases hd : (pD (bt B n (skp B n k)) && !(pA B (skp B n k))) = true
        · rw [if_pos hd] at e
          have hd' : pD (bt B n (skp B n k)) = true := by simp only [Bool.and_eq_true] at hd; exact hd.1
          have := dEn_gt hd'
          by_cases h4 : 4 < dEn B n (skp B n k) - skp B n k
          · rw [if_pos h4] at e; cases e
          · rw [if_neg h4] at e
            by_cases hr : 0 ≤ dV B (skp B n k) (dEn B n (skp B n k) - skp B n k) ∧ dV B (skp B n k) (dEn B n (skp B n k) - skp B n k) ≤ 9999
            · rw [if_pos hr] at e
              obtain ⟨rfl, rfl⟩ := Prod.mk.inj (Sum.inr.inj e)
              omega
            · rw [if_neg hr] at e; cases e
        · rw [if_neg hd] at e; cases e
      have hle := g3.kn
      show T_qCode τ3 (nI 1000 + nI v) _
      rw [nI_add]
      exact T_qCode_law g3 (by omega) _ fun τ4 g4 => fin _ _ τ4 hq.1 (h2 hp v q e) g4
    · rw [hnum] at e
      refine T_qCode_bad g3 (by omega) fun τ4 g4 => T_qEndsPart_bad g4.bad (PKs_bad (h3 hp kd pl e) (g4.mono (by omega)) (by omega))
end TP
