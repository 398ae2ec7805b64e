/-! COMPONENT, PURE SIDE: see, joined. -/
section CSee
variable {σ σ' : CS} {a : AS} {K : Int32 → CS → Prop} {x : Int32} {n t : Nat}
theorem co_see95 {c0 : Bool} (h : RC a σ) (ha : AOK a) (hx : c0 = true → x = nI t ∧ t < iC (aI a) 0 ∧ 1 ≤ n ∧ n ≤ 20) {b : Bool} {v : Nat} {l : Int32} (hv : b = true → c0 = true ∧ v = teM (aTp a) n ∧ (∀ k, k < n → dyQ (aTp a) k = true) ∧ l = nI (aTp a (n - 1)))
    (hk0 : (b && ahd ((aS a).1 0) (nI (aTp a (n - 1))) 1 30) = false → ∀ σ', RC (aRef a 1) σ' → K (-1) σ')
    (hk1 : (b && ahd ((aS a).1 0) (nI (aTp a (n - 1))) 1 30) = true → ∀ σ', RC a σ' → K (nI (setN (fun f => allN (fun k => seB (aTp a) n (k + 1) == br1 a t f (k + 1)) (aTp a (n - 1))) 10)) σ') : U_X0_see_95 K x (b1 b) (oL v) l σ := by
  unfold U_X0_see_95
  refine br_b b (fun e => ?_) (fun e => ?_)
  · rw [e] at hk0; exact co_refuses (k := 1) h (by omega) (hk0 rfl)
  obtain ⟨v1, v2, v3, v4⟩ := hv e
  obtain ⟨x1, x2, x3, x4⟩ := hx v1
  subst v2 v4 x1
  rw [e, Bool.true_and] at hk0 hk1
  have up := dyQ_up n v3 (n - 1) (by omega)
  refine co_isAhead h ha (lo := 1) (hi := 30) rfl rfl (by omega) (by omega) (bn_b _ (fun e2 => ?_) (fun e2 => ?_))
  · exact co_refuses (k := 1) h (by omega) (hk0 e2)
  refine ⟨11, ?_⟩
  have lp : ∀ (d g f : Nat) (σ' : CS), 10 - f = d → d < g → f ≤ 10 → RC a σ' → U_X0_see_123 K (nI t) (oL (teM (aTp a) n)) (nI (aTp a (n - 1))) g (nI (setN (fun f => allN (fun k => seB (aTp a) n (k + 1) == br1 a t f (k + 1)) (aTp a (n - 1))) f)) (nI f) σ' := by
    intro d
    induction d with
    | zero =>
      intro g f σ' hd hg hf h'
      obtain ⟨g, rfl⟩ : ∃ f', g = f' + 1 := ⟨g - 1, by omega⟩
      obtain rfl : f = 10 := by omega
      unfold U_X0_see_123
      exact br_t (by decide) (hk1 e2 σ' h')
    | succ d ih =>
      intro g f σ' hd hg hf h'
      obtain ⟨g, rfl⟩ : ∃ f', g = f' + 1 := ⟨g - 1, by omega⟩
      unfold U_X0_see_123
      refine br_f (nI_ge (a := f) (b := 10) (by omega) (by omega)) (co_breaksBy h' ha x2 (by omega) fun σ2 h2 _ => ?_)
      have hlt : dyN (fun d => br1 a t f d) (aTp a (n - 1)) < 2 ^ 31 := Nat.lt_of_lt_of_le (dyN_lt _ _) (Nat.pow_le_pow_right (by omega) (by omega))
      have nx := ih g (f + 1) σ2 (by omega) (by omega) (by omega) h2
      rw [setN_s] at nx
      rw [oL_inj hlt (teM_lt _ _), se_eq (by omega) v3, nI_1]
      cases e4 : allN (fun k => seB (aTp a) n (k + 1) == br1 a t f (k + 1)) (aTp a (n - 1)) with
      | false =>
        rw [e4, if_neg (by decide), Nat.add_zero] at nx
        refine bn_t (by decide) ?_
        rw [or_0]; exact nx
      | true =>
        rw [e4, if_pos rfl] at nx
        refine bn_f rfl ?_
        rw [or_I10 f (by omega) _ (setN_lt _ f)]; exact nx
  exact lp 10 _ 0 σ rfl (by omega) (by omega) h
theorem co_see38 {c0 : Bool} (h : RC a σ) (ha : AOK a) (hn : n ≤ 1600) (hx : c0 = true → x = nI t ∧ t < iC (aI a) 0 ∧ 1 ≤ n ∧ n ≤ 20)
    (hk0 : (c0 && (allN (dyQ (aTp a)) n && ahd ((aS a).1 0) (nI (aTp a (n - 1))) 1 30)) = false → ∀ σ', RC (aRef a 1) σ' → K (-1) σ')
    (hk1 : (c0 && (allN (dyQ (aTp a)) n && ahd ((aS a).1 0) (nI (aTp a (n - 1))) 1 30)) = true → ∀ σ', RC a σ' → K (nI (setN (fun f => allN (fun k => seB (aTp a) n (k + 1) == br1 a t f (k + 1)) (aTp a (n - 1))) 10)) σ') : ∃ g, U_X0_see_38 K x (nI n) g (b1 c0) 0 0 0 σ := by
  have bad : ∀ (b : Bool) (v : Nat) (l : Int32), b = false → (c0 && allN (dyQ (aTp a)) n) = false → U_X0_see_95 K x (b1 b) (oL v) l σ := by
    intro b v l hb hc
    refine co_see95 (n := n) (t := t) h ha hx (fun z => by rw [hb] at z; cases z) (fun _ => hk0 (by rw [← Bool.and_assoc, hc, Bool.false_and])) (fun z => by rw [hb] at z; cases z)
  refine ⟨n + 2, ?_⟩
  have lp : ∀ (d g j : Nat) (b : Bool) (v : Nat) (l : Int32), n - j = d → d < g → j ≤ n → (b = (c0 && allN (dyQ (aTp a)) j)) → (b = true → v = teM (aTp a) j ∧ l = nI (if j = 0 then 0 else aTp a (j - 1))) → U_X0_see_38 K x (nI n) g (b1 b) (oL v) l (nI j) σ := by
    intro d
    induction d with
    | zero =>
      intro g j b v l hd hg hj hb hv
      obtain ⟨g, rfl⟩ : ∃ f', g = f' + 1 := ⟨g - 1, by omega⟩
      obtain rfl : j = n := by omega
      unfold U_X0_see_38
      refine br_t (nI_le (by omega) (by omega)) ?_
      cases b with
      | false => exact bad false v l rfl hb.symm
      | true =>
        obtain ⟨v1, v2⟩ := hv rfl
        have hb' := hb.symm
        rw [Bool.and_eq_true] at hb'
        obtain ⟨x1, x2, x3, x4⟩ := hx hb'.1
        rw [if_neg (by omega)] at v2
        refine co_see95 (n := j) (t := t) h ha hx (fun _ => ⟨hb'.1, v1, (allN_t _).mp hb'.2, v2⟩) (fun z => hk0 (by rw [← Bool.and_assoc, ← hb]; exact z)) (fun z => hk1 (by rw [← Bool.and_assoc, ← hb]; exact z))
    | succ d ih =>
      intro g j b v l hd hg hj hb hv
      obtain ⟨g, rfl⟩ : ∃ f', g = f' + 1 := ⟨g - 1, by omega⟩
      unfold U_X0_see_38
      refine br_f (nI_ge (by omega) (by omega)) ?_
      cases b with
      | false =>
        refine br_t rfl (bad false v l rfl ?_)
        cases c0 with
        | false => rfl
        | true =>
          rw [Bool.true_and] at hb
          rw [Bool.true_and]; exact allN_mono hb.symm _ (by omega)
      | true =>
        obtain ⟨v1, v2⟩ := hv rfl
        subst v1 v2
        have hb' := hb.symm
        rw [Bool.and_eq_true] at hb'
        obtain ⟨x1, x2, x3, x4⟩ := hx hb'.1
        have hB := h.2.1.2.2.2
        have hj8 := hB j
        have hl : (if j = 0 then 0 else aTp a (j - 1)) < 256 := by
          split
          · omega
          · exact hB _
        have elo : (nI (if j = 0 then 0 else aTp a (j - 1)) + 1).toInt = (((if j = 0 then 0 else aTp a (j - 1)) + 1 : Nat) : Int) := by
          rw [nI_1, nI_toInt (by omega)]
        have ein : inR (nI (aTp a j)) (((if j = 0 then 0 else aTp a (j - 1)) + 1 : Nat) : Int) 30 = dyQ (aTp a) j := by
          unfold inR dyQ
          rw [nI_toInt (by omega)]
          apply decide_eq_decide.mpr
          by_cases e0 : j = 0
          · rw [if_pos e0, if_pos e0]; omega
          · rw [if_neg e0, if_neg e0]; omega
        have ea : allN (dyQ (aTp a)) (j + 1) = dyQ (aTp a) j := by
          show (allN (dyQ (aTp a)) j && dyQ (aTp a) j) = _
          rw [hb'.2, Bool.true_and]
        refine br_f (by decide) (co_byteAt h.2.1.2.2.1 hB (by omega) (co_is elo rfl (co_byteAt h.2.1.2.2.1 hB (by omega) ?_)))
        rw [show (30 : Int32).toInt = 30 from rfl, ein, nI_1]
        refine br_b _ (fun e => ?_) (fun e => ?_)
        · rw [show oL (teM (aTp a) j) ||| 0 = oL (teM (aTp a) j) from Int64.or_zero]
          exact ih g (j + 1) _ _ _ (by omega) (by omega) (by omega) (by rw [ea, hb'.1, Bool.true_and]) (fun z => by rw [e] at z; cases z)
        · have hq := (dyQ_up (B := aTp a) (j + 1) (fun k hk => (allN_t (j + 1)).mp (ea.trans e) k hk) j (by omega))
          rw [sh1_L _ (by omega), or_oL, ← teM_s hq.1 hq.2.2]
          exact ih g (j + 1) _ _ _ (by omega) (by omega) (by omega) (by rw [ea, hb'.1, Bool.true_and]) (fun _ => ⟨rfl, by rw [if_neg (by omega), Nat.add_sub_cancel]⟩)
  have := lp n (n + 2) 0 c0 0 0 rfl (by omega) (by omega) (by rw [show allN (dyQ (aTp a)) 0 = true from rfl, Bool.and_true]) (fun _ => ⟨(teM_0 _).symm, rfl⟩)
  exact this
theorem co_see (h : RC a σ) (ha : AOK a) (hk : ∀ σ', RC (sp_see a x).2 σ' → K (sp_see a x).1 σ') : U_X0_see σ x K := by
  have hn := h.2.1.1
  have hb := ha.ib
  have hc := hb.1
  have h0 : RC (aT0 a) (wI σ 0 2 0) := h.tn (n := 0) (by omega)
  have ha0 : AOK (aT0 a) := ha
  unfold sp_see dyOK isTh at hk
  refine st_ ?_
  rw [h.2.1.2.1]
  have go : ∀ c0 : Bool, (c0 = (inR x 0 ((iC (aI a) 0 : Int) - 1) && decide (1 ≤ aTn a ∧ aTn a ≤ 20))) → ∃ g, U_X0_see_38 K x (nI (aTn a)) g (b1 c0) 0 0 0 (wI σ 0 2 0) := by
    intro c0 hc0
    refine co_see38 (t := ix x) h0 ha0 hn (fun z => ?_) (fun z => ?_) (fun z => ?_)
    · rw [z] at hc0
      have hc1 := hc0.symm
      rw [Bool.and_eq_true, decide_eq_true_eq] at hc1
      obtain ⟨q1, q2⟩ := inR_ix hc1.1 (by omega)
      exact ⟨q1, q2, hc1.2⟩
    · have z : (inR x 0 ((iC (aI a) 0 : Int) - 1) && (decide (1 ≤ aTn a ∧ aTn a ≤ 20) && (allN (dyQ (aTp a)) (aTn a) && ahd ((aS a).1 0) (nI (aTp a (aTn a - 1))) 1 30))) = false := by
        rw [← Bool.and_assoc, ← hc0]; exact z
      rw [z] at hk; exact hk
    · have z : (inR x 0 ((iC (aI a) 0 : Int) - 1) && (decide (1 ≤ aTn a ∧ aTn a ≤ 20) && (allN (dyQ (aTp a)) (aTn a) && ahd ((aS a).1 0) (nI (aTp a (aTn a - 1))) 1 30))) = true := by
        rw [← Bool.and_assoc, ← hc0]; exact z
      rw [z] at hk; exact hk
  refine co_isThing (show IsR _ (aI a) from h0.is) hb (br_b _ (fun e => ?_) (fun e => ?_))
  · exact go false (by rw [e]; rfl)
  · refine co_is (lo := 1) (hi := 20) rfl rfl (br_b _ (fun e2 => ?_) (fun e2 => ?_))
    · refine go false ?_
      unfold inR at e2
      rw [decide_eq_false_iff_not, nI_toInt (by omega)] at e2
      rw [e, decide_eq_false (by omega)]; rfl
    · refine go true ?_
      unfold inR at e2
      rw [decide_eq_true_eq, nI_toInt (by omega)] at e2
      rw [e, decide_eq_true (by omega)]; rfl
end CSee
