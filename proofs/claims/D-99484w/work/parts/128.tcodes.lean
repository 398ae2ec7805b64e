/-! PURE SIDE, the model: codes are told. -/
def EP (τ0 τ : Sto) (p : List Int64) : Prop := ((∀ i j, ¬ (i = 0 ∧ (j = 50 ∨ j = 98)) → τ.1 i j = τ0.1 i j) ∧ ∀ i j, i ≠ 98 → τ.2.1 i j = τ0.2.1 i j) ∧ τ.1 0 98 = nI p.length ∧ ∀ i, i < p.length → τ.2.1 98 i = p.reverse.getD i 0
theorem getD_appL {l : List Int64} {v : Int64} {i : Nat} (hi : i < l.length + 1) : (l ++ [v]).getD i 0 = if i = l.length then v else l.getD i 0 := by
  by_cases e : i = l.length
  · subst e; simp [List.getD_eq_getElem?_getD]
  · rw [if_neg e]
    simp only [List.getD_eq_getElem?_getD]
    rw [List.getElem?_append_left (by omega)]
section TCo
variable {I : Isl} {fr : Int32 × Int32} {s : Nat → Nat} {τ0 τ τ' : Sto} {t w : Nat} {p : List Int64}
theorem EP.frE (h : EP τ0 τ p) : FrE τ0 τ := ⟨fun i j hij => h.1.1 i j (by omega), h.1.2⟩
theorem EP.top {v : Int64} (h : EP τ0 τ (v :: p)) : τ.2.1 98 p.length = v := by
  rw [h.2.2 p.length (by simp)]
  simp [List.getD_eq_getElem?_getD]
theorem EP.top2 {v u : Int64} (h : EP τ0 τ (v :: u :: p)) : τ.2.1 98 p.length = u := by
  rw [h.2.2 p.length (by simp; omega)]
  simp [List.getD_eq_getElem?_getD]
theorem sL_same (τ : Sto) (i j : Nat) (v : Int64) : (sL τ i j v).2.1 i j = v := by simp [sL]
theorem sL_ne {τ : Sto} {i j a b : Nat} {v : Int64} (h : ¬ (a = i ∧ b = j)) : (sL τ i j v).2.1 a b = τ.2.1 a b := by simp [sL, h]
theorem EP.push (h : EP τ0 τ p) (v : Int64) : EP τ0 (sI (sL τ 98 p.length v) 0 98 (nI (p.length + 1))) (v :: p) := by
  refine ⟨⟨fun i j hij => ?_, fun i j hij => ?_⟩, ?_, fun i hi => ?_⟩
  · rw [sI_ne (by omega)]; exact h.1.1 i j hij
  · show (sL τ 98 p.length v).2.1 i j = _
    rw [sL_ne (by omega)]; exact h.1.2 i j hij
  · rw [sI_same]; simp
  · rw [List.length_cons] at hi
    show (sL τ 98 p.length v).2.1 98 i = _
    rw [List.reverse_cons, getD_appL (by simpa using hi), List.length_reverse]
    by_cases e : i = p.length
    · subst e; rw [sL_same, if_pos rfl]
    · rw [sL_ne (by omega), if_neg e]; exact h.2.2 i (by omega)
theorem EP.pop2 {v u : Int64} (h : EP τ0 τ (v :: u :: p)) : EP τ0 (sI τ 0 98 (nI p.length)) p := by
  refine ⟨⟨fun i j hij => ?_, h.1.2⟩, sI_same .., fun i hi => ?_⟩
  · rw [sI_ne (by omega)]; exact h.1.1 i j hij
  · show τ.2.1 98 i = _
    rw [h.2.2 i (by simp; omega), List.reverse_cons, List.reverse_cons, getD_appL (by simp; omega), if_neg (by simp; omega), getD_appL (by simp; omega), if_neg (by simp; omega)]
theorem EP.swap {v : Int64} (h : EP τ0 τ (v :: p)) (u : Int64) : EP τ0 (sL τ 98 p.length u) (u :: p) := by
  refine ⟨⟨h.1.1, fun i j hij => ?_⟩, h.2.1, fun i hi => ?_⟩
  · rw [sL_ne (by omega)]; exact h.1.2 i j hij
  · rw [List.length_cons] at hi
    rw [List.reverse_cons, getD_appL (by simpa using hi), List.length_reverse]
    by_cases e : i = p.length
    · subst e; rw [sL_same, if_pos rfl]
    · rw [sL_ne (by omega), if_neg e, h.2.2 i (by simp; omega), List.reverse_cons, getD_appL (by simp; omega), List.length_reverse, if_neg e]
theorem T_qPuts_law {K : Sto → Prop} (h : EP τ0 τ p) (hl : p.length < 1700) (v : Int64) (hk : ∀ τ', EP τ0 τ' (v :: p) → K τ') : T_qPuts τ v K := by
  unfold T_qPuts
  rw [h.2.1]
  refine ⟨vi_ hl (by omega), st_ (st_ ?_)⟩
  rw [nI_clamp (by omega), sL_1, h.2.1, nI_1]
  exact hk _ (h.push v)
theorem T_qClip_law {K : Int64 → Sto → Prop} {v : Int64} (hk : K (hdL v) τ) : T_qClip τ v K := by
  unfold T_qClip
  by_cases h1 : v ≤ 1000000
  · refine br_t h1 ?_
    by_cases h2 : -1000000 ≤ v
    · refine br_t h2 ?_
      rw [hdL_id ⟨h2, h1⟩] at hk; exact hk
    · refine br_f h2 ?_
      have : hdL v = -1000000 := by
        have h3 := Int64.not_le.mp h2
        unfold hdL mnL mxL
        rw [if_pos (Int64.lt_trans h3 (by decide)), if_neg (Int64.not_lt.mpr (Int64.le_of_lt h3))]
      rw [this] at hk; exact hk
  · refine br_f h1 ?_
    have : hdL v = 1000000 := by
      have h3 := Int64.not_le.mp h1
      unfold hdL mnL mxL
      rw [if_neg (Int64.not_lt.mpr (Int64.le_of_lt h3)), if_pos (by decide)]
    rw [this] at hk; exact hk
theorem xor_sign (a b : Int64) : 0 ≤ (a ^^^ b) ↔ (0 ≤ a ↔ 0 ≤ b) := by
  have hs : ∀ x : Int64, 0 ≤ x ↔ x.toBitVec.msb = false := by
    intro x
    rw [Int64.le_iff_toInt_le, BitVec.msb_eq_toInt, decide_eq_false_iff_not]
    show (0 : Int) ≤ x.toBitVec.toInt ↔ _
    omega
  rw [hs, hs a, hs b, Int64.toBitVec_xor, BitVec.msb_xor]
  cases a.toBitVec.msb <;> cases b.toBitVec.msb <;> simp
theorem sub0 {a b : Int64} : a - b = 0 ↔ b = a := by
  constructor
  · intro h
    have := Int64.sub_add_cancel a b
    rw [h, Int64.zero_add] at this
    exact this
  · intro h; rw [h, Int64.sub_self]
theorem T_qFloor_law {K : Int64 → Sto → Prop} {a b : Int64} (hk : K (if b = 0 then 0 else fdv a b) τ) : T_qFloor τ a b K := by
  unfold T_qFloor
  by_cases h0 : b = 0
  · rw [if_pos h0] at hk; exact bn_f h0 hk
  · rw [if_neg h0] at hk
    refine bn_t h0 ⟨h0, h0, ?_⟩
    rw [sub0]
    unfold fdv at hk
    by_cases h1 : a / b * b = a
    · rw [if_pos h1, ite_self] at hk
      exact br_t h1 hk
    · rw [if_neg h1] at hk
      refine br_f h1 ?_
      have hx := xor_sign a b
      by_cases ha : 0 ≤ a <;> by_cases hb : 0 ≤ b
      · refine br_t ha ?_
        rw [if_pos (hx.mpr (by simp [ha, hb]))] at hk
        exact br_t hb (br_t rfl hk)
      · refine br_t ha ?_
        rw [if_neg (fun z => by have := hx.mp z; simp [ha, hb] at this)] at hk
        exact br_f hb (br_f (by decide) hk)
      · refine br_f ha ?_
        rw [if_neg (fun z => by have := hx.mp z; simp [ha, hb] at this)] at hk
        exact br_t hb (br_f (by decide) hk)
      · refine br_f ha ?_
        rw [if_pos (hx.mpr (by simp [ha, hb]))] at hk
        exact br_f hb (br_t rfl hk)
theorem nI_pred2 (n : Nat) : nI (n + 2) - 2 = nI n := by
  show nI (n + 2) - nI 2 = _
  rw [nI_sub (by omega)]; rfl
theorem T_qJoins_law {K : Sto → Prop} {x : Int32} {a b : Int64} (h : EP τ0 τ (b :: a :: p)) (hl : p.length < 1690) (hk : ∀ τ', EP τ0 τ' (jnL x a b :: p) → K τ') : T_qJoins τ x K := by
  unfold T_qJoins
  have e1 : τ.1 0 98 - 1 = nI (p.length + 1) := by rw [h.2.1]; show nI (p.length + 1 + 1) - 1 = _; rw [nI_pred]
  have e2 : τ.1 0 98 - 2 = nI p.length := by rw [h.2.1]; show nI (p.length + 2) - 2 = _; rw [nI_pred2]
  rw [e1, e2, nI_clamp (by omega), nI_clamp (by omega)]
  refine ⟨vi_ (by omega) (by omega), st_ ⟨vi_ (by omega) (by omega), st_ (st_ ?_)⟩⟩
  have g := h.pop2
  rw [show τ.2.1 98 (p.length + 1) = b from h.top, h.top2]
  generalize sI τ 0 98 (nI p.length) = τ1 at g ⊢
  have put : ∀ v, v = jnL x a b → T_qPuts τ1 v K := fun v hv => T_qPuts_law g (by omega) v (fun τ' g' => hk τ' (by rw [← hv]; exact g'))
  by_cases c1 : x = 1
  · exact br_t c1 (T_qClip_law (put _ (by unfold jnL; rw [if_pos c1])))
  refine br_f c1 ?_
  by_cases c2 : x = 2
  · exact br_t c2 (T_qClip_law (put _ (by unfold jnL; rw [if_neg c1, if_pos c2])))
  refine br_f c2 ?_
  by_cases c3 : x = 3
  · exact br_t c3 (T_qClip_law (put _ (by unfold jnL; rw [if_neg c1, if_neg c2, if_pos c3])))
  refine br_f c3 ?_
  by_cases c4 : x = 4
  · exact br_t c4 (T_qFloor_law (put _ (by unfold jnL; rw [if_neg c1, if_neg c2, if_neg c3, if_pos c4])))
  refine br_f c4 ?_
  by_cases c5 : x = 5
  · have hj : jnL x a b = if a < b then a else b := by unfold jnL; rw [if_neg c1, if_neg c2, if_neg c3, if_neg c4, if_pos c5]
    refine br_t c5 ?_
    by_cases hab : b ≤ a
    · exact br_t hab (put _ (by rw [hj, if_neg (Int64.not_lt.mpr hab)]))
    · exact br_f hab (put _ (by rw [hj, if_pos (Int64.not_le.mp hab)]))
  refine br_f c5 ?_
  by_cases c6 : x = 6
  · have hj : jnL x a b = if b < a then a else b := by unfold jnL; rw [if_neg c1, if_neg c2, if_neg c3, if_neg c4, if_neg c5, if_pos c6]
    refine br_t c6 ?_
    by_cases hab : a ≤ b
    · exact br_t hab (put _ (by rw [hj, if_neg (Int64.not_lt.mpr hab)]))
    · exact br_f hab (put _ (by rw [hj, if_pos (Int64.not_le.mp hab)]))
  refine br_f c6 ?_
  by_cases c7 : x = 7
  · have hj : jnL x a b = b1L (decide (a < b)) := by unfold jnL; rw [if_neg c1, if_neg c2, if_neg c3, if_neg c4, if_neg c5, if_neg c6, if_pos c7]
    refine br_t c7 ?_
    by_cases hab : b ≤ a
    · exact br_t hab (put _ (by rw [hj, decide_eq_false (Int64.not_lt.mpr hab)]; rfl))
    · exact br_f hab (put _ (by rw [hj, decide_eq_true (Int64.not_le.mp hab)]; rfl))
  refine br_f c7 ?_
  by_cases c8 : x = 8
  · have hj : jnL x a b = b1L (decide (b < a)) := by unfold jnL; rw [if_neg c1, if_neg c2, if_neg c3, if_neg c4, if_neg c5, if_neg c6, if_neg c7, if_pos c8]
    refine br_t c8 ?_
    by_cases hab : a ≤ b
    · exact br_t hab (put _ (by rw [hj, decide_eq_false (Int64.not_lt.mpr hab)]; rfl))
    · exact br_f hab (put _ (by rw [hj, decide_eq_true (Int64.not_le.mp hab)]; rfl))
  refine br_f c8 ?_
  by_cases c9 : x = 9
  · have hj : jnL x a b = b1L (decide (a = b)) := by unfold jnL; rw [if_neg c1, if_neg c2, if_neg c3, if_neg c4, if_neg c5, if_neg c6, if_neg c7, if_neg c8, if_pos c9]
    refine br_t c9 ?_
    by_cases hab : a = b
    · exact bn_f hab (put _ (by rw [hj, decide_eq_true hab]; rfl))
    · exact bn_t hab (put _ (by rw [hj, decide_eq_false hab]; rfl))
  refine br_f c9 ?_
  by_cases c10 : x = 10
  · exact br_t c10 (put _ (by unfold jnL; rw [if_neg c1, if_neg c2, if_neg c3, if_neg c4, if_neg c5, if_neg c6, if_neg c7, if_neg c8, if_neg c9, if_pos c10]))
  refine br_f c10 ?_
  have hj : jnL x a b = b1L (decide (0 < a + b)) := by unfold jnL; rw [if_neg c1, if_neg c2, if_neg c3, if_neg c4, if_neg c5, if_neg c6, if_neg c7, if_neg c8, if_neg c9, if_neg c10]
  by_cases hab : a + b ≤ 0
  · exact br_t hab (put _ (by rw [hj, decide_eq_false (Int64.not_lt.mpr hab)]; rfl))
  · exact br_f hab (put _ (by rw [hj, decide_eq_true (Int64.not_le.mp hab)]; rfl))
theorem runC_none {e : Env} {x : Int32} {c : List Int32} {q : List Int64} (hs : stC e x p = none) (h : runC e (x :: c) p = some q) : False := by
  rw [runC_cons, hs] at h; cases h
theorem runC_some {e : Env} {x : Int32} {c : List Int32} {q p' : List Int64} (hs : stC e x p = some p') (h : runC e (x :: c) p = some q) : runC e c p' = some q := by
  rw [runC_cons, hs] at h; exact h
/-- codes from place a on, i of them told -/
theorem codes_loop {K : Int64 → Sto → Prop} {tk a : Nat} {c : List Int32} {e : Env} {v : Int64} (htk : tk ≠ 3) (hE : EvC I fr s τ0) (ht : t < iC I 0) (hw : w < 10) (hc : NoL tk c) (ha : a + c.length ≤ 1600)
    (he : ∀ k, k < 10 → alw tk k = true → e.1 k = (evE I fr s t (τ0.1 0 55) e.2).1 k ∧ BdL (e.1 k)) (hal : ∀ k, alw tk k = true → k < 10)
    (h47 : τ0.1 47 (10 + w) = nI (a + c.length)) (h48 : ∀ i, i < c.length → τ0.1 48 (1600 + (a + i)) = c.getD i 0) (hk : ∀ τ', FrE τ0 τ' → K v τ') :
    ∀ (d f i : Nat) (τ : Sto) (p : List Int64), c.length - i = d → d < f → i ≤ c.length → EP τ0 τ p → p.length ≤ i → runC e (c.drop i) p = some [v] → T_codesTell_23 K (nI w) (nI t) f (nI (a + i)) τ := by
  intro d
  induction d with
  | zero =>
    intro f i τ p hd hf hi g hp hr
    obtain ⟨f, rfl⟩ : ∃ f', f = f' + 1 := ⟨f - 1, by omega⟩
    obtain rfl : i = c.length := by omega
    rw [List.drop_length] at hr
    have hpv : p = [v] := Option.some.inj hr
    subst hpv
    unfold T_codesTell_23
    rw [show (10 : Int32) + nI w = nI (10 + w) from nI_add 10 w, nI_clamp (by omega), g.1.1 47 _ (by omega), h47]
    refine ⟨vi_ (by omega) (by omega), br_t (nI_le (by omega) (by omega)) ⟨vi_ (i := 0) (by omega) (by omega), ?_⟩⟩
    rw [show τ.2.1 98 (Int32.toNatClampNeg 0) = v from g.top (p := [])]
    exact hk τ g.frE
  | succ d ih =>
    intro f i τ p hd hf hi g hp hr
    obtain ⟨f, rfl⟩ : ∃ f', f = f' + 1 := ⟨f - 1, by omega⟩
    have hil : i < c.length := by omega
    have hdr : c.drop i = c.getD i 0 :: c.drop (i + 1) := by
      rw [List.drop_eq_getElem_cons hil, List.getD_eq_getElem?_getD, List.getElem?_eq_getElem hil]; rfl
    rw [hdr] at hr
    have hx : okC tk (c.getD i 0) = true := hc _ (by rw [List.getD_eq_getElem?_getD, List.getElem?_eq_getElem hil]; exact List.getElem_mem _)
    unfold T_codesTell_23
    rw [show (10 : Int32) + nI w = nI (10 + w) from nI_add 10 w, nI_clamp (by omega), g.1.1 47 _ (by omega), h47]
    rw [show (1600 : Int32) + nI (a + i) = nI (1600 + (a + i)) from nI_add 1600 _, nI_clamp (by omega), g.1.1 48 _ (by omega), h48 i hil, nI_1]
    refine ⟨vi_ (by omega) (by omega), br_f (nI_ge (by omega) (by omega)) ⟨vi_ (by omega) (by omega), ?_⟩⟩
    generalize c.getD i 0 = x at hr hx ⊢
    have next : ∀ (τ' : Sto) (p' : List Int64), EP τ0 τ' p' → p'.length ≤ i + 1 → stC e x p = some p' → T_codesTell_23 K (nI w) (nI t) f (nI (a + i + 1)) τ' := fun τ' p' g' hl hs => ih f (i + 1) τ' p' (by omega) (by omega) (by omega) g' hl (runC_some hs hr)
    by_cases c1 : 1000 ≤ x
    · refine br_f (Int32.not_lt.mpr c1) (T_qPuts_law g (by omega) _ fun τ' g' => next τ' _ g' (by rw [List.length_cons]; omega) ?_)
      unfold stC; rw [if_pos c1]
    · refine br_t (Int32.not_le.mp c1) ?_
      have c2 : ¬ 60 ≤ x := fun z => htk (okC_60 hx c1 z)
      by_cases c3 : 40 ≤ x
      · have hao := okC_40 hx c1 c2 c3
        have hlt := hal _ hao
        obtain ⟨q1, q2⟩ := he _ hlt hao
        refine br_f (Int32.not_lt.mpr c3) ?_
        have hpos : ¬ x - 40 < 0 := by
          rw [Int32.lt_iff_toInt_lt]
          rw [Int32.le_iff_toInt_le] at c3
          have h60 : x.toInt < 60 := by rw [Int32.le_iff_toInt_le] at c2; have : (60 : Int32).toInt = 60 := rfl; omega
          have h40 : (40 : Int32).toInt = 40 := rfl
          rw [Int32.toInt_sub, h40, show (0 : Int32).toInt = 0 from rfl, Int.bmod_eq_of_le_mul_two (by omega) (by omega)]
          omega
        obtain ⟨j, hj1, hj2⟩ := nI_of hpos
        rw [hj2, nI_clamp hj1] at hao hlt q1 q2
        rw [hj2]
        refine T_qPartOf_law (hE.fr_ g.frE) hlt ht e.2 ?_
        rw [g.1.1 0 55 (by omega), ← q1]
        refine T_qPuts_law g (by omega) _ fun τ' g' => next τ' _ g' (by rw [List.length_cons]; omega) ?_
        unfold stC; rw [if_neg c1, if_neg c2, if_pos c3, hj2, nI_clamp hj1, hdL_id q2]
      · refine br_t (Int32.not_le.mp c3) ?_
        by_cases c4 : x = 13
        · refine bn_f c4 (T_qPuts_law g (by omega) _ fun τ' g' => next τ' _ g' (by rw [List.length_cons]; omega) ?_)
          unfold stC; rw [if_neg c1, if_neg c2, if_neg c3, if_pos c4]
        · refine bn_t c4 ?_
          by_cases c5 : x = 12
          · refine bn_f c5 ?_
            match p, g, hp, hr, next with
            | [], g, hp, hr, next => exact absurd (runC_none (by unfold stC; rw [if_neg c1, if_neg c2, if_neg c3, if_neg c4, if_pos c5]) hr) id
            | u :: p', g, hp, hr, next =>
              rw [List.length_cons] at hp
              have e1 : τ.1 0 98 - 1 = nI p'.length := by rw [g.2.1]; show nI (p'.length + 1) - 1 = _; rw [nI_pred]
              rw [e1, nI_clamp (by omega), g.top]
              refine ⟨vi_ (by omega) (by omega), vi_ (by omega) (by omega), st_ (next _ _ (g.swap (1 - u)) (by rw [List.length_cons]; omega) ?_)⟩
              unfold stC; rw [if_neg c1, if_neg c2, if_neg c3, if_neg c4, if_pos c5]
          · refine bn_t c5 ?_
            match p, g, hp, hr, next with
            | [], g, hp, hr, next => exact absurd (runC_none (by unfold stC; rw [if_neg c1, if_neg c2, if_neg c3, if_neg c4, if_neg c5]) hr) id
            | [u], g, hp, hr, next => exact absurd (runC_none (by unfold stC; rw [if_neg c1, if_neg c2, if_neg c3, if_neg c4, if_neg c5]) hr) id
            | b :: u :: p', g, hp, hr, next =>
              rw [List.length_cons, List.length_cons] at hp
              refine T_qJoins_law g (by omega) fun τ' g' => next τ' _ g' (by rw [List.length_cons]; omega) ?_
              unfold stC; rw [if_neg c1, if_neg c2, if_neg c3, if_neg c4, if_neg c5]
end TCo
