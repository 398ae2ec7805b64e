/-! PURE SIDE, the model's reader: words eaten, signs, numbers; codes and what waits. -/
section TE
variable {τ0 τ : Sto} {B : Byt} {n k o bs : Nat} {C W : List Int32}
theorem RFc.bad {z kd pl : Nat} (h : RFc z τ0 τ kd pl) : ¬ τ.1 0 5 = 0 := h.2.2.1
theorem RFc.mono {z z' kd pl : Nat} (h : RFc z τ0 τ kd pl) (hz : z ≤ z') : RFc z' τ0 τ kd pl := by
  obtain ⟨h1, h2, h3, h4, c, h5, h6⟩ := h
  exact ⟨h1, h2, h3, h4, c, by omega, h6⟩
theorem T_eats_law {K : Int32 → Sto → Prop} (hT : TxT τ0 B n) (h : RQ τ0 B n τ k C W o bs) {id : Nat} {w : List Nat} (hp : (id, w) ∈ wTab)
    (h1 : hereW B n k w = true → ∀ τ', RQ τ0 B n τ' (wEn B n (skp B n k)) C W o bs → K 1 τ') (h0 : hereW B n k w = false → ∀ τ', RQ τ0 B n τ' (skp B n k) C W o bs → K 0 τ') : T_eats τ id K := by
  have hn := hT.1
  refine T_isHere_law hT h hp fun τ1 g => ?_
  cases e : hereW B n k w with
  | false => exact bn_f (by decide) (h0 e τ1 g)
  | true =>
    refine bn_t (by decide) ⟨?_, st_ (st_ ?_)⟩
    · rw [wTab_len hp]; exact wTab_L _ hp
    · have e' := e
      simp only [hereW, okW, Bool.and_eq_true, decide_eq_true_eq] at e'
      have hkn := skp_le (B := B) h.kn
      have hle := wEn_le (B := B) hkn
      have hge := wEn_gt e'.1.1
      have el : skp B n k + w.length = wEn B n (skp B n k) := by
        rw [← e'.2, wd_len]; omega
      have ea : τ1.1 0 2 + Int32.ofNat (twLen id) = nI (wEn B n (skp B n k)) := by
        rw [wTab_len hp, g.at_]
        show nI _ + nI w.length = _
        rw [nI_add, el]
      rw [ea, sI_same]
      exact h1 e _ (g.goW hle (EnO.ends hn hle (by omega) (Or.inl (wEn_last e'.1.1))))
theorem T_asks_law {K : Sto → Prop} (hT : TxT τ0 B n) (h : RQ τ0 B n τ k C W o bs) {id : Nat} {w : List Nat} (hp : (id, w) ∈ wTab)
    (h1 : ∀ q, pWd B n k w = .inr q → ∀ τ', RQ τ0 B n τ' q C W o bs → K τ') (h0 : ∀ kd pl, pWd B n k w = .inl (kd, pl) → ∀ τ', RFc C.length τ0 τ' kd pl → K τ') : T_asks τ id K := by
  refine bn_f h.bad (T_eats_law hT h hp (fun e τ1 g => bn_t (by decide) (h1 _ (by simp [pWd, e]) τ1 g)) (fun e τ1 g => bn_f rfl ?_))
  exact T_fail_law g (kd := 1) rfl g.at_ (by omega) (by omega) (fun τ2 g2 => h0 _ _ (by simp [pWd, e]) τ2 g2)
theorem T_asks_bad {K : Sto → Prop} {id : Nat} (h : ¬ τ.1 0 5 = 0) (hk : K τ) : T_asks τ id K := bn_t h hk
theorem T_takesSign_law {K : Int32 → Sto → Prop} (hT : TxT τ0 B n) (h : RQ τ0 B n τ k C W o bs) {c : Nat} {x : Int32} (ec : x = nI c) (hc : c < 256) (hl : pL c = false) (hd : pD c = false)
    (h1 : bt B n (skp B n k) = c → ∀ τ', RQ τ0 B n τ' (skp B n k + 1) C W o bs → K 1 τ') (h0 : bt B n (skp B n k) ≠ c → ∀ τ', RQ τ0 B n τ' (skp B n k) C W o bs → K 0 τ') : T_takesSign τ x K := by
  have hn := hT.1
  subst ec
  refine bn_f h.bad (T_look_law hT h fun τ1 g => ?_)
  rw [cI_eq (bt_le hT.2.2.2.1) hc]
  by_cases e : bt B n (skp B n k) = c
  · refine br_t e (st_ ?_)
    have hin := bt_in e (by omega)
    rw [bt_lt hin] at e
    rw [g.at_, nI_1]
    exact h1 (by rw [bt_lt hin]; exact e) _ (g.go (by omega) (g.en.sign hn hin (by rw [e]; exact hl) (by rw [e]; exact hd)))
  · exact br_f e (h0 e τ1 g)
theorem T_takesSign_bad {K : Int32 → Sto → Prop} {x : Int32} (h : ¬ τ.1 0 5 = 0) (hk : K 0 τ) : T_takesSign τ x K := bn_t h hk
theorem T_asksSign_law {K : Sto → Prop} (hT : TxT τ0 B n) (h : RQ τ0 B n τ k C W o bs) {c : Nat} {x : Int32} (ec : x = nI c) (hc : c < 256) (hl : pL c = false) (hd : pD c = false)
    (h1 : ∀ q, pMust B n k c = .inr q → ∀ τ', RQ τ0 B n τ' q C W o bs → K τ') (h0 : ∀ kd pl, pMust B n k c = .inl (kd, pl) → ∀ τ', RFc C.length τ0 τ' kd pl → K τ') : T_asksSign τ x K := by
  refine bn_f h.bad (T_takesSign_law hT h ec hc hl hd (fun e τ1 g => bn_t (by decide) (h1 _ (by simp [pMust, e]) τ1 g)) (fun e τ1 g => bn_f rfl ?_))
  exact T_fail_law g (kd := 1) rfl g.at_ (by omega) (by omega) (fun τ2 g2 => h0 _ _ (by simp [pMust, e]) τ2 g2)
theorem T_asksSign_bad {K : Sto → Prop} {x : Int32} (h : ¬ τ.1 0 5 = 0) (hk : K τ) : T_asksSign τ x K := bn_t h hk
theorem dEn_ge (B : Byt) (n k : Nat) : k ≤ dEn B n k := rnE_ge _ _ _
theorem dEn_le {B : Byt} {n k : Nat} (h : k ≤ n) : dEn B n k ≤ n := rnE_le h
theorem dEn_stop {B : Byt} {n k : Nat} (h : pD (bt B n k) = false) : dEn B n k = k := rnE_stop (q := fun j => pD (bt B n j)) h
theorem dEn_step {B : Byt} {n k : Nat} (h : pD (bt B n k) = true) : dEn B n k = dEn B n (k + 1) := rnE_step (q := fun j => pD (bt B n j)) h (pD_in h)
theorem dEn_gt {B : Byt} {n k : Nat} (h : pD (bt B n k) = true) : k < dEn B n k := by
  have := dEn_step h
  have := dEn_ge B n (k + 1)
  omega
theorem dEn_all {B : Byt} {n k j : Nat} (h1 : k ≤ j) (h2 : j < dEn B n k) : pD (bt B n j) = true := rnE_all (q := fun j => pD (bt B n j)) _ k rfl j h1 h2
theorem dEn_last {B : Byt} {n k : Nat} (h : pD (bt B n k) = true) : pD (B (dEn B n k - 1)) = true := by
  have h1 := dEn_gt h
  have h2 := dEn_le (B := B) (n := n) (k := k) (Nat.le_of_lt (pD_in h))
  have := dEn_all (B := B) (n := n) (k := k) (j := dEn B n k - 1) (by omega) (by omega)
  rw [bt_lt (by omega)] at this
  exact this
theorem dV_lt (B : Byt) (p : Nat) : ∀ i, (∀ j, j < i → pD (B (p + j)) = true) → dV B p i < 10 ^ i
  | 0, _ => (by decide : (0 : Nat) < 10 ^ 0)
  | i + 1, h => by
    have ih := dV_lt B p i (fun j hj => h j (by omega))
    have := h i (by omega)
    simp only [pD, decide_eq_true_eq] at this
    rw [Nat.pow_succ]
    show 10 * dV B p i + B (p + i) - 48 < _
    omega
theorem T_isIn_law {τ : Sto} {K : Int32 → Sto → Prop} {a b c : Int64} (hk : K (b1 (decide (b ≤ a ∧ a ≤ c))) τ) : T_isIn τ a b c K := by
  unfold T_isIn
  by_cases h1 : a < b
  · refine br_t h1 ?_
    rw [show decide (b ≤ a ∧ a ≤ c) = false by rw [decide_eq_false_iff_not]; intro z; exact absurd z.1 (by rw [Int64.not_le]; exact h1)] at hk
    exact hk
  · refine br_f h1 ?_
    by_cases h2 : c < a
    · refine br_t h2 ?_
      rw [show decide (b ≤ a ∧ a ≤ c) = false by rw [decide_eq_false_iff_not]; intro z; exact absurd z.2 (by rw [Int64.not_le]; exact h2)] at hk
      exact hk
    · refine br_f h2 ?_
      rw [show decide (b ≤ a ∧ a ≤ c) = true by rw [decide_eq_true_eq]; exact ⟨Int64.not_lt.mp h1, Int64.not_lt.mp h2⟩] at hk
      exact hk
theorem nI_mul (a b : Nat) : nI a * nI b = nI (a * b) := (Int32.ofNat_mul a b).symm
theorem nIL_le {a b : Nat} (ha : a < 2 ^ 31) (hb : b < 2 ^ 31) : (nI a).toInt64 ≤ (nI b).toInt64 ↔ a ≤ b := by
  rw [Int64.le_iff_toInt_le, Int32.toInt_toInt64, Int32.toInt_toInt64, nI_toInt ha, nI_toInt hb]; omega
theorem sI_id {τ : Sto} {i j : Nat} {v : Int32} (h : τ.1 i j = v) : sI τ i j v = τ := by
  refine Prod.ext ?_ rfl
  funext a b
  by_cases hab : a = i ∧ b = j
  · obtain ⟨rfl, rfl⟩ := hab; rw [sI_same]; exact h.symm
  · exact sI_ne hab
/-- a number: one round, j digits read -/
theorem T_number_49_one {K : Int32 → Sto → Prop} (hT : TxT τ0 B n) {p lo hi : Nat} (hlo : lo < 10 ^ 9) (hhi : hi < 10 ^ 9) (hp0 : pD (bt B n p) = true)
    (h1 : dEn B n p - p ≤ 4 → lo ≤ dV B p (dEn B n p - p) ∧ dV B p (dEn B n p - p) ≤ hi → ∀ τ', RQ τ0 B n τ' (dEn B n p) C W o bs → K (nI (dV B p (dEn B n p - p))) τ')
    (h2 : dEn B n p - p ≤ 4 → ¬ (lo ≤ dV B p (dEn B n p - p) ∧ dV B p (dEn B n p - p) ≤ hi) → ∀ r τ', RFc C.length τ0 τ' 2 p → K r τ')
    (h3 : 4 < dEn B n p - p → ∀ r τ', RFc C.length τ0 τ' 1 (p + 4) → K r τ')
    (f j : Nat) (τ : Sto) (hf : 0 < f) (hj : j ≤ 4) (hjl : p + j ≤ dEn B n p) (h : RQg (fun _ => True) τ0 n τ (p + j) C W o bs)
    (hnext : j < 4 → p + j < dEn B n p → ∀ f', f = f' + 1 → ∀ τ', RQg (fun _ => True) τ0 n τ' (p + (j + 1)) C W o bs → T_number_49 K (nI lo) (nI hi) (nI p) f' (nI (dV B p (j + 1))) τ') : T_number_49 K (nI lo) (nI hi) (nI p) f (nI (dV B p j)) τ := by
  have hn := hT.1
  have hpn := pD_in hp0
  have hle := dEn_le (B := B) (n := n) (k := p) (Nat.le_of_lt hpn)
  have h0 := dEn_gt hp0
  have hz : pD (bt B n (dEn B n p)) = false := rnE_false (q := fun j => pD (bt B n j)) (n := n) pD_out _ p rfl
  have hdig : ∀ j, p + j < dEn B n p → pD (B (p + j)) = true := by
    intro j hj
    have := dEn_all (B := B) (n := n) (k := p) (j := p + j) (by omega) hj
    rw [bt_lt (by omega)] at this
    exact this
  obtain ⟨f, rfl⟩ : ∃ f', f = f' + 1 := ⟨f - 1, by omega⟩
  have hv := dV_lt B p j (fun i hi => hdig i (by omega))
  have hv9 : dV B p j < 10 ^ 4 := Nat.lt_of_lt_of_le hv (Nat.pow_le_pow_right (by omega) hj)
  have hend : dEn B n p = p + j → T_number_129 K (nI lo) (nI hi) (nI p) (nI (dV B p j)) τ := by
    intro e
    refine st_ (T_isIn_law ?_)
    rw [h.at_]
    have hq : RQ τ0 B n (sI τ 0 4 (nI (p + j))) (p + j) C W o bs := by
      have := h.goW (E' := EnO B n (p + j)) (k' := p + j) (by omega) (EnO.ends hn (by omega) (by omega) (Or.inr (by rw [← e]; exact dEn_last hp0)))
      rw [sI_id h.at_] at this
      exact this
    have e6 : dEn B n p - p = j := by omega
    by_cases hr : lo ≤ dV B p j ∧ dV B p j ≤ hi
    · rw [show decide ((nI lo).toInt64 ≤ (nI (dV B p j)).toInt64 ∧ (nI (dV B p j)).toInt64 ≤ (nI hi).toInt64) = true by
        rw [decide_eq_true_eq, nIL_le (by omega) (by omega), nIL_le (by omega) (by omega)]; exact hr]
      refine bn_t (by decide) ?_
      have := h1 (by omega) (by rw [e6]; exact hr) _ (by rw [e]; exact hq)
      rw [e6] at this
      exact this
    · rw [show decide ((nI lo).toInt64 ≤ (nI (dV B p j)).toInt64 ∧ (nI (dV B p j)).toInt64 ≤ (nI hi).toInt64) = false by
        rw [decide_eq_false_iff_not, nIL_le (by omega) (by omega), nIL_le (by omega) (by omega)]; exact hr]
      refine bn_f (by decide) (T_fail_law hq (kd := 2) rfl rfl (by omega) (by omega) fun τ' g => ?_)
      exact h2 (by omega) (by rw [e6]; exact hr) _ τ' g
  unfold T_number_49
  rw [h.end_ hT, h.at_]
  by_cases hpnj : n ≤ p + j
  · exact br_t (nI_le (by omega) (by omega)) (hend (by omega))
  · have hB := hT.2.2.2.1 (p + j)
    refine br_f (nI_ge (by omega) (by omega)) ⟨vi_ (by omega) (by omega), ?_⟩
    rw [nI_clamp (by omega), h.tape hT (by omega), ← cI_in (by omega : B (p + j) ≠ 256)]
    refine T_isDigit_law (by omega) ?_
    cases e : pD (B (p + j)) with
    | false =>
      refine br_t rfl (hend ?_)
      by_cases e4 : dEn B n p = p + j
      · exact e4
      · have := hdig j (by omega)
        rw [e] at this; cases this
    | true =>
      have hne : p + j ≠ dEn B n p := by
        intro z; rw [← z, bt_lt (by omega), e] at hz; cases hz
      refine br_f (by decide) ?_
      rw [h.at_, nI_sub (by omega), show p + j - p = j by omega]
      by_cases hj4 : j = 4
      · subst hj4
        exact bn_f rfl (T_fail_law h (kd := 1) (pl := p + 4) rfl rfl (by omega) (by omega) fun τ' g => h3 (by omega) _ τ' g)
      · refine bn_t (fun z => absurd ((nI_eq (b := 4) (by omega) (by omega)).mp z) (by omega)) ⟨vi_ (by omega) (by omega), st_ (st_ ?_)⟩
        rw [nI_1, nI_clamp (by omega), h.tape hT (by omega)]
        have hd := e
        simp only [pD, decide_eq_true_eq] at hd
        have ev : (10 : Int32) * nI (dV B p j) + nI (B (p + j)) - 48 = nI (dV B p (j + 1)) := by
          show nI 10 * nI (dV B p j) + nI (B (p + j)) - nI 48 = _
          rw [nI_mul, nI_add, nI_sub (by omega)]
          rfl
        rw [ev]
        exact hnext (by omega) (by omega) f rfl _ (h.go (by omega) trivial)
/-- a number: the digits from p on, j of them read -/
theorem T_number_49_law {K : Int32 → Sto → Prop} (hT : TxT τ0 B n) {p lo hi : Nat} {x1 x2 : Int32} (e1 : x1 = nI lo) (e2 : x2 = nI hi) (hlo : lo < 10 ^ 9) (hhi : hi < 10 ^ 9) (hp0 : pD (bt B n p) = true)
    (h1 : dEn B n p - p ≤ 4 → lo ≤ dV B p (dEn B n p - p) ∧ dV B p (dEn B n p - p) ≤ hi → ∀ τ', RQ τ0 B n τ' (dEn B n p) C W o bs → K (nI (dV B p (dEn B n p - p))) τ')
    (h2 : dEn B n p - p ≤ 4 → ¬ (lo ≤ dV B p (dEn B n p - p) ∧ dV B p (dEn B n p - p) ≤ hi) → ∀ r τ', RFc C.length τ0 τ' 2 p → K r τ')
    (h3 : 4 < dEn B n p - p → ∀ r τ', RFc C.length τ0 τ' 1 (p + 4) → K r τ') :
    ∀ (d f j : Nat) (τ : Sto), 4 - j = d → d + 1 < f → j ≤ 4 → p + j ≤ dEn B n p → RQg (fun _ => True) τ0 n τ (p + j) C W o bs → T_number_49 K x1 x2 (nI p) f (nI (dV B p j)) τ := by
  have hn := hT.1
  subst e1 e2
  have hpn := pD_in hp0
  have hle := dEn_le (B := B) (n := n) (k := p) (Nat.le_of_lt hpn)
  have h0 := dEn_gt hp0
  have hz : pD (bt B n (dEn B n p)) = false := rnE_false (q := fun j => pD (bt B n j)) (n := n) pD_out _ p rfl
  have hdig : ∀ j, p + j < dEn B n p → pD (B (p + j)) = true := by
    intro j hj
    have := dEn_all (B := B) (n := n) (k := p) (j := p + j) (by omega) hj
    rw [bt_lt (by omega)] at this
    exact this
  intro d
  induction d with
  | zero =>
    intro f j τ hd hf hj hjl h
    exact (T_number_49_one hT hlo hhi hp0 h1 h2 h3 f j τ (by omega) hj hjl h (fun hj4 => absurd hj4 (by omega)))
  | succ d ih =>
    intro f j τ hd hf hj hjl h
    refine (T_number_49_one hT hlo hhi hp0 h1 h2 h3 f j τ (by omega) hj hjl h (fun hj4 hlt f' e τ' g => ?_))
    exact ih f' (j + 1) τ' (by omega) (by omega) (by omega) (by omega) g
theorem T_number_law {K : Int32 → Sto → Prop} (hT : TxT τ0 B n) (h : RQ τ0 B n τ k C W o bs) {lo hi : Nat} {x1 x2 : Int32} (e1 : x1 = nI lo) (e2 : x2 = nI hi) (hlo : lo < 10 ^ 9) (hhi : hi < 10 ^ 9)
    (h1 : ∀ v q, pNum B n k lo hi = .inr (v, q) → ∀ τ', RQ τ0 B n τ' q C W o bs → K (nI v) τ') (h0 : ∀ kd pl, pNum B n k lo hi = .inl (kd, pl) → ∀ r τ', RFc C.length τ0 τ' kd pl → K r τ') : T_number τ x1 x2 K := by
  have hn := hT.1
  subst e1 e2
  refine br_t h.bad (T_look_law hT h fun τ1 g => T_isDigit_law (bt_le hT.2.2.2.1) ?_)
  have hkn := skp_le (B := B) h.kn
  have hen := g.en.2
  rw [skp_idem] at hen
  cases e : pD (bt B n (skp B n k)) with
  | false =>
    refine br_t rfl (T_fail_law g (kd := 1) rfl g.at_ (by omega) (by omega) fun τ' g' => ?_)
    exact h0 1 (skp B n k) (by simp [pNum, e]) _ τ' g'
  | true =>
    refine br_f (by decide) ?_
    rw [g.at_]
    cases ea : pA B (skp B n k) with
    | true =>
      refine bn_f (hen.mpr ea).symm (T_fail_law g (kd := 1) rfl rfl (by omega) (by omega) fun τ' g' => ?_)
      exact h0 1 (skp B n k) (by simp [pNum, ea]) _ τ' g'
    | false =>
      refine bn_t (fun z => by rw [hen.mp z.symm] at ea; cases ea) ⟨6, ?_⟩
      have h00 := dEn_gt e
      refine T_number_49_law hT rfl rfl hlo hhi e (fun hl hr τ' g' => h1 _ _ ?_ τ' g') (fun hl hr r τ' g' => h0 _ _ ?_ r τ' g') (fun hl r τ' g' => h0 _ _ ?_ r τ' g') 4 6 0 τ1 rfl (by omega) (by omega) (by omega) ?_
      · simp only [pNum, e, ea, Bool.not_false, Bool.and_self, if_true]
        rw [if_neg (by omega), if_pos hr]
      · simp only [pNum, e, ea, Bool.not_false, Bool.and_self, if_true]
        rw [if_neg (by omega), if_neg hr]
      · simp only [pNum, e, ea, Bool.not_false, Bool.and_self, if_true]
        rw [if_pos hl]
      · exact ⟨g.1, g.2.1, g.2.2.1, trivial, g.2.2.2.2⟩
theorem T_number_bad {K : Int32 → Sto → Prop} {x1 x2 : Int32} (h : ¬ τ.1 0 5 = 0) (hk : K 0 τ) : T_number τ x1 x2 K := br_f h hk
end TE
