/-! PURE SIDE, the model's reader: atoms and sums are read as the meaning says. -/
section TQ
variable {τ0 τ : Sto} {B : Byt} {n k o bs tk : Nat} {C W : List Int32} {K : Sto → Prop} {x1 : Int32} {A : Nat → Rs (VV × Nat)}
theorem DnV.num {x : Nat} (h : x ≤ 9999) : DnV tk [nI (1000 + x)] (fun _ => (nI x).toInt64) := ⟨DenV.num h, NoL.one (by
  unfold okC
  rw [show decide ((1000 : Int32) ≤ nI (1000 + x)) = true by rw [decide_eq_true_eq]; exact nI_le (a := 1000) (by omega) (by omega)]
  simp)⟩
theorem DnV.part {j : Nat} (h : j < 10) (hal : alw tk j = true) : DnV tk [nI (40 + j)] (fun e => hdL (e.1 j)) := ⟨DenV.part h, NoL.one (by
  unfold okC
  rw [show nI (40 + j) - 40 = nI j by show nI (40 + j) - nI 40 = _; rw [nI_sub (by omega), Nat.add_sub_cancel_left], nI_clamp (by omega), hal, show decide (nI (40 + j) < (60 : Int32)) = true by rw [decide_eq_true_eq]; exact nI_lt (b := 60) (by omega) (by omega)]
  simp)⟩
theorem pMust_skp {q : Nat} (hq : skp B n q = q) (c : Nat) : pMust B n q c = if bt B n q = c then .inr (q + 1) else .inl (1, q) := by unfold pMust; rw [hq]
theorem pNum_digit {v q lo hi : Nat} (e : pNum B n k lo hi = .inr (v, q)) : pD (bt B n (skp B n k)) = true ∧ v ≤ hi ∧ skp B n k < q := by
  unfold pNum at e
  dsimp only at e
  by_cases hd : (pD (bt B n (skp B n k)) && !(pA B (skp B n k))) = true
  · rw [if_pos hd] at e
    have hd' : pD (bt B n (skp B n k)) = true := by simp only [Bool.and_eq_true] at hd; exact hd.1
    have := dEn_gt hd'
    by_cases h4 : 4 < dEn B n (skp B n k) - skp B n k
    · rw [if_pos h4] at e; cases e
    · rw [if_neg h4] at e
      by_cases hr : lo ≤ dV B (skp B n k) (dEn B n (skp B n k) - skp B n k) ∧ dV B (skp B n k) (dEn B n (skp B n k) - skp B n k) ≤ hi
      · rw [if_pos hr] at e
        obtain ⟨rfl, rfl⟩ := Prod.mk.inj (Sum.inr.inj e)
        exact ⟨hd', hr.2, this⟩
      · rw [if_neg hr] at e; cases e
  · rw [if_neg hd] at e; cases e
theorem pNum_nodigit {lo hi : Nat} (h : pD (bt B n (skp B n k)) = false) : pNum B n k lo hi = .inl (1, skp B n k) := by
  unfold pNum; simp [h]
/-- brackets: behind the opening one -/
theorem wit_law {two : Nat} {b : Int32} {AA : Nat → Nat → Rs (VV × Nat)} (hT : TxT τ0 B n) (htwo : (two = 0 ∧ b = 20) ∨ (two = 1 ∧ b = 21) ∨ (two = 2 ∧ b = 22)) (hA : AtomOK τ0 B n bs K x1 tk (AA (o + 1)) (o + 1)) (ho : o ≠ 6) (hc : bt B n (skp B n k) = 40) (hbW : bs ≤ W.length) (hz : C.length + W.length ≤ k)
    (hok : ∀ v k', pWit B n AA two o k = .inr (v, k') → ∀ c, DnV tk c v → c.length + k ≤ k' → GoE τ0 B n bs K x1 k' (C ++ c) W o)
    (her : ∀ kd pl, pWit B n AA two o k = .inl (kd, pl) → FFs τ0 1601 K kd pl) : GoP τ0 B n bs K x1 (skp B n k + 1) C (b :: W) (o + 1) := by
  have hn := hT.1
  have hin : skp B n k < n := bt_in hc (by omega)
  have hsk := skp_ge B n k
  have hbr : isBr b = true := by rcases htwo with ⟨-, rfl⟩ | ⟨-, rfl⟩ | ⟨-, rfl⟩ <;> decide
  have hb60 : b < 60 := by rcases htwo with ⟨-, rfl⟩ | ⟨-, rfl⟩ | ⟨-, rfl⟩ <;> decide
  have hbop : ¬ opI b := by rcases htwo with ⟨-, rfl⟩ | ⟨-, rfl⟩ | ⟨-, rfl⟩ <;> simp [opI]
  have hun : pWit B n AA two o k = rsB (pSum B n (AA (o + 1)) (skp B n k + 1)) (fun r =>
      if two = 0 then rsB (pMust B n r.2 41) (fun k' => .inr (r.1, k'))
      else rsB (pMust B n r.2 44) (fun k1 => rsB (pSum B n (AA (o + 1)) k1) (fun r2 => rsB (pMust B n r2.2 41) (fun k' =>
        .inr ((fun e => if two = 2 then (if r.1 e ≤ r2.1 e then r2.1 e else r.1 e) else (if r.1 e ≤ r2.1 e then r.1 e else r2.1 e)), k'))))) := by
    unfold pWit; rw [if_pos hc, if_neg ho]
  refine sum_law (W := b :: W) hT hA (fun v W' e => by cases e; exact hbop) (Or.inr ⟨b, W, rfl, hb60⟩) (by simp only [List.length_cons]; omega) (by omega) (by simp only [List.length_cons]; omega) (fun v1 k1 e1 c1 p1 a1 a2 d1 l1 n1 k0 hk0 => ?_) (fun kd pl e1 => her kd pl (by rw [hun, e1]; rfl))
  have hq1 : skp B n k1 = k1 := by rw [← hk0, skp_idem]
  have hpos1 := d1.1.pos
  rw [List.length_append] at hpos1
  refine GoG.out fun hk0n => ?_
  have hk1n : k1 ≤ n := by rw [← hk0]; exact skp_le hk0n
  have hz1 : (C ++ c1).length + (p1 ++ b :: W).length ≤ k1 := by simp only [List.length_append, List.length_cons]; omega
  by_cases h2 : two = 0
  · have hb : b = 20 := by
      rcases htwo with ⟨-, h⟩ | ⟨h, -⟩ | ⟨h, -⟩
      · exact h
      · omega
      · omega
    subst hb
    have hun1 : pWit B n AA two o k = rsB (pMust B n k1 41) (fun k' => .inr (v1, k')) := by
      rw [hun, e1]
      show (if two = 0 then _ else _) = _
      rw [if_pos h2]
    by_cases h41 : bt B n k1 = 41
    · refine goG_close hT hk0 h41 (Or.inl rfl) a1 hbW hz1 ?_
      have := hok v1 (k1 + 1) (by rw [hun1, pMust_skp hq1, if_pos h41]; rfl) (c1 ++ p1) d1 (by simp only [List.length_append]; omega)
      rw [show C ++ c1 ++ p1 ++ brC 20 = C ++ (c1 ++ p1) by rw [show brC 20 = [] from rfl, List.append_nil, List.append_assoc]]
      exact this
    · refine goG_fail hT hk0 hbr (fun z => h41 z.1) (fun z => by rcases z.2 with h | h <;> exact absurd h (by decide)) n1 a1 hbW hz1 ?_
      exact her 1 k1 (by rw [hun1, pMust_skp hq1, if_neg h41]; rfl)
  · have hb : b = 21 ∨ b = 22 := by
      rcases htwo with ⟨h, -⟩ | ⟨-, h⟩ | ⟨-, h⟩
      · exact absurd h h2
      · exact Or.inl h
      · exact Or.inr h
    have hun1 : pWit B n AA two o k = rsB (pMust B n k1 44) (fun k1 => rsB (pSum B n (AA (o + 1)) k1) (fun r2 => rsB (pMust B n r2.2 41) (fun k' =>
        .inr ((fun e => if two = 2 then (if v1 e ≤ r2.1 e then r2.1 e else v1 e) else (if v1 e ≤ r2.1 e then v1 e else r2.1 e)), k')))) := by
      rw [hun, e1]
      show (if two = 0 then _ else _) = _
      rw [if_neg h2]
    by_cases h44 : bt B n k1 = 44
    · have hin1 : k1 < n := bt_in h44 (by omega)
      refine goG_comma hT hk0 h44 hb a1 hbW hz1 ?_
      have hb2 : b + 2 = 23 ∨ b + 2 = 24 := by rcases hb with rfl | rfl <;> decide
      have hun2 : pWit B n AA two o k = rsB (pSum B n (AA (o + 1)) (k1 + 1)) (fun r2 => rsB (pMust B n r2.2 41) (fun k' =>
          .inr ((fun e => if two = 2 then (if v1 e ≤ r2.1 e then r2.1 e else v1 e) else (if v1 e ≤ r2.1 e then v1 e else r2.1 e)), k'))) := by
        rw [hun1, pMust_skp hq1, if_pos h44]; rfl
      have hb260 : b + 2 < 60 := by rcases hb with rfl | rfl <;> decide
      refine sum_law (C := C ++ c1 ++ p1) (W := (b + 2) :: W) hT hA (fun v W' e => by cases e; rcases hb2 with h | h <;> rw [h] <;> simp [opI]) (Or.inr ⟨_, W, rfl, hb260⟩) (by simp only [List.length_cons]; omega) (by omega) (by simp only [List.length_append, List.length_cons]; omega) (fun v2 k2 e2 c2 p2 b1' b2' d2 l2 n2 k02 hk02 => ?_) (fun kd pl e2 => her kd pl (by rw [hun2, e2]; rfl))
      have hq2 : skp B n k2 = k2 := by rw [← hk02, skp_idem]
      refine GoG.out fun hk02n => ?_
      have hk2n : k2 ≤ n := by rw [← hk02]; exact skp_le hk02n
      have hz2 : (C ++ c1 ++ p1 ++ c2).length + (p2 ++ (b + 2) :: W).length ≤ k2 := by simp only [List.length_append, List.length_cons]; omega
      have hbr2 : isBr (b + 2) = true := by rcases hb2 with h | h <;> rw [h] <;> decide
      by_cases h41 : bt B n k2 = 41
      · refine goG_close hT hk02 h41 (Or.inr hb2) b1' hbW hz2 ?_
        have hE := hok _ (k2 + 1) (by rw [hun2, e2]; show rsB (pMust B n k2 41) _ = _; rw [pMust_skp hq2, if_pos h41]; rfl) ((c1 ++ p1) ++ (c2 ++ p2) ++ brC (b + 2)) ?_ (by
          have : (brC (b + 2)).length ≤ 1 := by rcases hb2 with h | h <;> rw [h] <;> decide
          simp only [List.length_append]; omega)
        · rw [show C ++ c1 ++ p1 ++ c2 ++ p2 ++ brC (b + 2) = C ++ ((c1 ++ p1) ++ (c2 ++ p2) ++ brC (b + 2)) by simp only [List.append_assoc]]
          exact hE
        · rcases htwo with ⟨h, -⟩ | ⟨h1, rfl⟩ | ⟨h1, rfl⟩
          · omega
          · subst h1
            exact ⟨d1.1.min d2.1, (d1.2.app d2.2).app (NoL.one rfl)⟩
          · subst h1
            exact ⟨d1.1.max d2.1, (d1.2.app d2.2).app (NoL.one rfl)⟩
      · refine goG_fail hT hk02 hbr2 (fun z => h41 z.1) (fun z => by rcases hb2 with h | h <;> rw [h] at z <;> rcases z.2 with h' | h' <;> exact absurd h' (by decide)) n2 b1' hbW hz2 ?_
        exact her 1 k2 (by rw [hun2, e2]; show rsB (pMust B n k2 41) _ = _; rw [pMust_skp hq2, if_neg h41]; rfl)
    · refine goG_fail hT hk0 hbr (fun z => by rcases hb with h | h <;> rw [h] at z <;> rcases z.2 with h' | h' | h' <;> exact absurd h' (by decide)) (fun z => h44 z.1) n1 a1 hbW hz1 ?_
      exact her 1 k1 (by rw [hun1, pMust_skp hq1, if_neg h44]; rfl)
theorem okW_pL (h : okW B n k = true) : pL (bt B n k) = true := by simp only [okW, Bool.and_eq_true] at h; exact h.1
theorem pL_not40 {c : Nat} (h : pL c = true) : c ≠ 40 ∧ pD c = false := by
  simp only [pL, decide_eq_true_eq] at h
  constructor
  · omega
  · simp [pD]; omega
theorem atom_law (hT : TxT τ0 B n) (ht : tk < 4) (h50 : τ0.1 0 50 = nI tk) : ∀ (m o : Nat), o ≤ 6 → 7 - o ≤ m → AtomOK τ0 B n bs K x1 tk (pAtm B n tk m o) o := by
  have hn := hT.1
  intro m
  induction m with
  | zero => intro o h1 h2; omega
  | succ m ih =>
    intro o ho hm k C W hkn hbW hz hok her f g τ hf hg h
    obtain ⟨g, rfl⟩ : ∃ g', g = g' + 1 := ⟨g - 1, by omega⟩
    have hsk := skp_ge B n k
    have hsl := skp_le (B := B) hkn
    have hwl : W.length < 1700 := by omega
    refine P_step hT ht h50 h (fun e40 τ1 g1 => ?_) (fun e40 emm τ1 g1 => ?_) (fun e40 em eM eo τ1 g1 => ?_) (fun e40 em eM eo τ1 g1 => ?_)
    · -- a round bracket
      have hin : skp B n k < n := bt_in e40 (by omega)
      have hun : pAtm B n tk (m + 1) o k = pWit B n (pAtm B n tk m) 0 o k := by
        show (if _ then _ else _) = _
        rw [if_pos e40]
      refine T_qOpens_law g1 hwl ho g1.at_ (fun h6 τ2 g2 => st_ ?_) (fun h6 τ2 g2 => st_ (part_bad (her 4 _ (by rw [hun]; unfold pWit; rw [if_pos e40, if_pos h6])) ((g2.mono (by omega)).w (by simp)) (by omega) (by omega)))
      rw [g2.at_, nI_1]
      have hB : B (skp B n k) = 40 := by rw [← e40, bt_lt hin]
      have g3 := g2.go (E' := EnO B n (skp B n k + 1)) (k' := skp B n k + 1) (by omega) (g2.en.sign hn hin (by rw [hB]; decide) (by rw [hB]; decide))
      exact wit_law (AA := pAtm B n tk m) hT (Or.inl ⟨rfl, rfl⟩) (ih (o + 1) (by omega) (by omega)) h6 e40 hbW hz (fun v k' e => hok v k' (by rw [hun]; exact e)) (fun kd pl e => her kd pl (by rw [hun]; exact e)) f g _ (by omega) (by omega) g3
    · -- the lesser or greater of two
      have how : okW B n (skp B n k) = true := by
        rcases emm with e | e <;> simp only [hereW, Bool.and_eq_true] at e <;> exact e.1
      have hpl := okW_pL how
      have hgt := wEn_gt hpl
      have hwn := wEn_le (B := B) hsl
      have hwe : wHe B n k = minWd ∨ wHe B n k = maxWd := by
        rcases emm with e | e <;> rw [hereW_eq, how, Bool.true_and, decide_eq_true_eq] at e
        · exact Or.inl e
        · exact Or.inr e
      have hun : pAtm B n tk (m + 1) o k = if wHe B n k = minWd then pWit B n (pAtm B n tk m) 1 o (wEn B n (skp B n k)) else pWit B n (pAtm B n tk m) 2 o (wEn B n (skp B n k)) := by
        show (if _ then _ else _) = _
        rw [if_neg e40, if_neg (by rw [(pL_not40 hpl).2]; decide)]
        unfold pWord
        rw [if_pos how]
        show (if (aIx B n k).any (alw tk) then _ else _) = _
        have ha : aIx B n k = none := by
          cases ha : aIx B n k with
          | none => rfl
          | some j =>
            obtain ⟨h1, h2⟩ := aIx_lt ha
            have := askWs_is j h1
            rw [← h2] at this
            rcases hwe with h | h
            · exact absurd h this.2.1
            · exact absurd h this.2.2
        rw [ha]
        show (if tk = 3 ∧ wHe B n k = isWd then _ else if wHe B n k = minWd then _ else if wHe B n k = maxWd then _ else _) = _
        rw [if_neg (by
          rintro ⟨-, hi⟩
          rcases hwe with h | h <;> rw [h] at hi <;> exact absurd hi (by decide))]
        by_cases hmi : wHe B n k = minWd
        · rw [if_pos hmi, if_pos hmi]
        · rw [if_neg hmi, if_neg hmi, if_pos (hwe.resolve_left hmi)]
      -- behind the word
      have step : ∀ (two : Nat) (b x4 : Int32) (τ2 : Sto), (two = 1 ∧ b = 21 ∧ ¬ x4 = 0) ∨ (two = 2 ∧ b = 22 ∧ x4 = 0) → pAtm B n tk (m + 1) o k = pWit B n (pAtm B n tk m) two o (wEn B n (skp B n k)) → RQ τ0 B n τ2 (wEn B n (skp B n k)) C W o bs → T_qPartTold_101 (PKs K x1 f) (T_qPartTold_2 (PKs K x1 f) g) 1 x4 τ2 := by
        intro two b x4 τ2 h2 hun g2
        have hsk2 := skp_ge B n (wEn B n (skp B n k))
        have hsl2 := skp_le (B := B) hwn
        unfold T_qPartTold_101
        refine T_look_law hT g2 fun τ3 g3 => ?_
        rw [show (40 : Int32) = nI 40 from rfl, cI_eq (bt_le hT.2.2.2.1) (by omega)]
        have hsi := skp_idem B n (wEn B n (skp B n k))
        by_cases e4 : bt B n (skp B n (wEn B n (skp B n k))) = 40
        · refine bn_f e4 ?_
          have hin2 : skp B n (wEn B n (skp B n k)) < n := bt_in e4 (by omega)
          unfold T_qPartTold_118
          rw [g3.at_]
          refine br_f (fun z => nI_m1 (by omega) z.symm) ?_
          have fin : T_qPartTold_139 (PKs K x1 f) (T_qPartTold_2 (PKs K x1 f) g) 1 (nI (skp B n (wEn B n (skp B n k)))) b τ3 := by
            refine T_qOpens_law g3 hwl ho rfl (fun h6 τ4 g4 => ?_) (fun h6 τ4 g4 => ?_)
            · refine T_asksSign_law hT g4 (c := 40) rfl (by omega) (by decide) (by decide) (fun q e τ5 g5 => ?_) (fun kd pl e => by simp [pMust, hsi, e4] at e)
              simp only [pMust, hsi, e4, if_true] at e
              have e := Sum.inr.inj e
              subst e
              refine wit_law (AA := pAtm B n tk m) (two := two) hT ?_ (ih (o + 1) (by omega) (by omega)) h6 e4 hbW (by omega) (fun v k' e c d l => hok v k' (by rw [hun]; exact e) c d (by omega)) (fun kd pl e => her kd pl (by rw [hun]; exact e)) f g _ (by omega) (by omega) g5
              rcases h2 with ⟨h, h', -⟩ | ⟨h, h', -⟩
              · exact Or.inr (Or.inl ⟨h, h'⟩)
              · exact Or.inr (Or.inr ⟨h, h'⟩)
            · refine T_asksSign_bad g4.bad (part_bad (her 4 _ ?_) (g4.mono (by omega)) (by omega) (by omega))
              rw [hun]; unfold pWit; rw [if_pos e4, if_pos h6]
          rcases h2 with ⟨-, rfl, h0⟩ | ⟨-, rfl, h0⟩
          · exact br_f h0 fin
          · exact br_t h0 fin
        · refine bn_t e4 ?_
          unfold T_qPartTold_118
          refine br_t rfl (T_asksSign_law hT g3 (c := 40) rfl (by omega) (by decide) (by decide) (fun q e => by simp [pMust, hsi, e4] at e) (fun kd pl e τ4 g4 => ?_))
          simp only [pMust, hsi, e4, if_false] at e
          obtain ⟨rfl, rfl⟩ := Prod.mk.inj (Sum.inl.inj e)
          refine part_bad (her 1 _ ?_) (g4.mono (by omega)) (by omega) (by omega)
          rw [hun]; unfold pWit; rw [if_neg e4]
      unfold T_qPartTold_78
      refine T_eats_law hT g1 (w := minWd) (by decide) (fun e τ2 g2 => ?_) (fun e τ2 g2 => ?_)
      · rw [hereW_skp] at e
        rw [skp_idem] at g2
        have hmi : wHe B n k = minWd := by rw [hereW_eq, how, Bool.true_and, decide_eq_true_eq] at e; exact e
        exact bn_t (by decide) (step 1 21 1 τ2 (Or.inl ⟨rfl, rfl, by decide⟩) (by rw [hun, if_pos hmi]) g2)
      · rw [hereW_skp] at e
        rw [skp_idem] at g2
        have hmi : ¬ wHe B n k = minWd := by rw [hereW_eq, how, Bool.true_and, decide_eq_false_iff_not] at e; exact e
        have hma : hereW B n (skp B n k) maxWd = true := by rw [hereW_skp, hereW_eq, how, hwe.resolve_left hmi]; decide
        refine bn_f rfl (T_asks_law hT g2 (w := maxWd) (by decide) (fun q e τ3 g3 => ?_) (fun kd pl e => by simp [pWd, hma] at e))
        simp only [pWd, hma, if_true] at e
        have e := Sum.inr.inj e
        rw [skp_idem] at e
        subst e
        exact step 2 22 0 τ3 (Or.inr ⟨rfl, rfl, rfl⟩) (by rw [hun, if_neg hmi]) g3
    · -- what is told of a number
      simp only [isOf, Bool.and_eq_true, decide_eq_true_eq] at eo
      obtain ⟨how, h3, hwi⟩ := eo
      have hpl := okW_pL how
      have hgt := wEn_gt hpl
      have hwn := wEn_le (B := B) hsl
      have hun : pAtm B n tk (m + 1) o k = if o = 6 then .inl (4, skp B n k) else rsB (pAtm B n tk m (o + 1) (wEn B n (skp B n k))) (fun x => .inr ((fun e => hdL (e.2 (x.1 e))), x.2)) := by
        show (if _ then _ else _) = _
        rw [if_neg e40, if_neg (by rw [(pL_not40 hpl).2]; decide)]
        unfold pWord
        rw [if_pos how]
        show (if (aIx B n k).any (alw tk) then _ else _) = _
        have ha : aIx B n k = none := by
          cases ha : aIx B n k with
          | none => rfl
          | some j =>
            obtain ⟨h1, h2⟩ := aIx_lt ha
            have := (askWs_is j h1).1
            rw [← h2] at this
            exact absurd hwi this
        rw [ha]
        show (if tk = 3 ∧ wHe B n k = isWd then _ else _) = _
        rw [if_pos ⟨h3, hwi⟩]
      refine T_qOpens_law g1 hwl ho g1.at_ (fun h6 τ2 g2 => ?_) (fun h6 τ2 g2 => ?_)
      · have hhi : hereW B n (skp B n k) isWd = true := by rw [hereW_skp, hereW_eq, how, hwi]; decide
        refine T_qAsksWord_law (i := 10) (by omega) (T_asks_law hT g2 (id := 91) (w := isWd) (by decide) (fun q e τ3 g3 => ?_) (fun kd pl e => by simp [pWd, hhi] at e))
        simp only [pWd, hhi, if_true] at e
        have e := Sum.inr.inj e
        rw [skp_idem] at e
        subst e
        rw [if_neg h6] at hun
        refine ih (o + 1) (by omega) (by omega) (wEn B n (skp B n k)) C (60 :: W) hwn (by simp only [List.length_cons]; omega) (by simp only [List.length_cons]; omega) (fun v k' e c d l => ?_) (fun kd pl e => her kd pl (by rw [hun, e]; rfl)) f g τ3 (by omega) (by omega) g3
        refine GoE.out fun hk'n => goE_of hwl (by simp only [List.length_append]; omega) hbW ?_
        rw [List.append_assoc]
        exact hok _ k' (by rw [hun, e]; rfl) (c ++ [60]) ⟨d.1.look, d.2.app (NoL.one (by rw [h3]; rfl))⟩ (by simp only [List.length_append, List.length_cons, List.length_nil]; omega)
      · refine T_qAsksWord_law (i := 10) (by omega) (T_asks_bad g2.bad (part_bad (her 4 _ (by rw [hun, if_pos h6])) (g2.mono (by omega)) (by omega) (by omega)))
    · -- a number, a word
      have heM : ∀ how : okW B n (skp B n k) = true, wHe B n k ≠ minWd ∧ wHe B n k ≠ maxWd ∧ ¬ (tk = 3 ∧ wHe B n k = isWd) := by
        intro how
        rw [hereW_eq, how, Bool.true_and, decide_eq_false_iff_not] at em eM
        simp only [isOf, how, Bool.true_and, decide_eq_false_iff_not] at eo
        exact ⟨em, eM, eo⟩
      refine P_part hT ht h50 g1 (by omega) (by omega) hz hkn (fun how j ha hal => ?_) (fun hno v q e => ?_) (fun hno kd pl e => ?_)
      · have hpl := okW_pL how
        obtain ⟨hj, -⟩ := aIx_lt ha
        have hgt := wEn_gt hpl
        refine hok _ _ ?_ _ (DnV.part hj hal) (by simp only [List.length_cons, List.length_nil]; omega)
        show (if _ then _ else _) = _
        rw [if_neg e40, if_neg (by rw [(pL_not40 hpl).2]; decide)]
        unfold pWord
        rw [if_pos how]
        show (if (aIx B n k).any (alw tk) then (Sum.inr ((fun e => hdL (e.1 ((aIx B n k).getD 0))), _) : Rs (VV × Nat)) else _) = _
        rw [ha]
        show (if alw tk j = true then _ else _) = _
        rw [if_pos hal]
        rfl
      · obtain ⟨hd, hv, hq⟩ := pNum_digit e
        refine hok _ q ?_ _ (DnV.num hv) (by simp only [List.length_cons, List.length_nil]; omega)
        show (if _ then _ else _) = _
        rw [if_neg e40, if_pos hd, e]; rfl
      · refine her kd pl ?_
        show (if _ then _ else _) = _
        rw [if_neg e40]
        by_cases hd : pD (bt B n (skp B n k)) = true
        · rw [if_pos hd, e]; rfl
        · rw [if_neg hd]
          have hd' : pD (bt B n (skp B n k)) = false := by simpa using hd
          rw [pNum_nodigit hd'] at e
          obtain ⟨rfl, rfl⟩ := Prod.mk.inj (Sum.inl.inj e)
          unfold pWord
          by_cases how : okW B n (skp B n k) = true
          · obtain ⟨w1, w2, w3⟩ := heM how
            rw [if_pos how]
            show (if (aIx B n k).any (alw tk) then _ else if tk = 3 ∧ wHe B n k = isWd then _ else if wHe B n k = minWd then _ else if wHe B n k = maxWd then _ else _) = _
            rw [if_neg (fun z => hno ⟨how, z⟩), if_neg w3, if_neg w1, if_neg w2]
          · rw [if_neg how]; rfl
/-- a sum is told -/
theorem T_qSums_law {b0 m : Nat} (hT : TxT τ0 B n) (ht : tk < 4) (h50 : τ0.1 0 50 = nI tk) (h : RQ τ0 B n τ k C W o b0) (ho : o ≤ 6) (hm : 7 - o ≤ m) (hz : C.length + W.length ≤ k) (hW : topN opI W)
    (hok : ∀ v k', pSum B n (pAtm B n tk m o) k = .inr (v, k') → ∀ c, DnV tk c v → c.length + k ≤ k' → ∀ τ', RQ τ0 B n τ' k' (C ++ c) W o b0 → K τ')
    (her : ∀ kd pl, pSum B n (pAtm B n tk m o) k = .inl (kd, pl) → ∀ τ', RFc 1601 τ0 τ' kd pl → K τ') : T_qSums τ K := by
  have hn := hT.1
  have hkn := h.kn
  unfold T_qSums
  refine st_ ⟨n - k + 2, ?_⟩
  rw [h.wl, h.ba]
  have g := h.bas W.length
  unfold T_qSums_15
  refine br_f (by decide) (bn_f g.bad ⟨n - k + 2, ?_⟩)
  refine sum_law (bs := W.length) (K := K) (x1 := nI b0) hT (atom_law hT ht h50 m o ho hm) hW (Or.inl rfl) (Nat.le_refl _) hkn hz (fun v k' e c p a1 a2 d l nn k0 hk0 => ?_) (fun kd pl e τ' g' => her kd pl e τ' g') (n - k + 1) (n - k + 2) _ (by omega) (by omega) g
  refine GoG.out fun hk0n => ?_
  have hk'n : k' ≤ n := by rw [← hk0]; exact skp_le hk0n
  refine goG_end hT hk0 nn a1 rfl (by simp only [List.length_append]; omega) rfl fun τ' g' => hok v k' e (c ++ p) d (by simp only [List.length_append]; omega) τ' ?_
  rw [← List.append_assoc]
  exact g'
end TQ
