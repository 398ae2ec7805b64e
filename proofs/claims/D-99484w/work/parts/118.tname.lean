/-! PURE SIDE, the model's reader: names. -/
def pNm0 (B : Byt) (n k : Nat) : Rs (Nat × Nat) := rsB (pWord B n k) (fun r => if isOwn (wd B r.1 r.2) then .inl (1, r.1) else if 6 < r.2 - r.1 then .inl (1, r.1 + 6) else .inr r)
theorem pNme_eq (B : Byt) (n : Nat) (I : Isl) (k : Nat) : pNme B n I k = rsB (pNm0 B n k) (fun r => if isNam I (wd B r.1 r.2) then .inl (3, r.1) else .inr (wd B r.1 r.2, r.2)) := by
  unfold pNme pNm0
  cases pWord B n k with
  | inl e => rfl
  | inr r =>
    show (if _ then _ else _) = rsB (if _ then _ else _) _
    by_cases h1 : isOwn (wd B r.1 r.2) = true
    · rw [if_pos h1, if_pos h1]; rfl
    · rw [if_neg h1, if_neg h1]
      by_cases h2 : 6 < r.2 - r.1
      · rw [if_pos h2, if_pos h2]; rfl
      · rw [if_neg h2, if_neg h2]; rfl
theorem wd_snoc (B : Byt) (p j : Nat) : wd B p (p + (j + 1)) = wd B p (p + j) ++ [B (p + j)] := by
  unfold wd
  rw [show p + (j + 1) - p = j + 1 by omega, show p + j - p = j by omega, List.range_succ, List.map_append]
  rfl
section TN
variable {τ0 τ : Sto} {B : Byt} {n k o bs : Nat} {C W : List Int32}
theorem wd_let {p q : Nat} (hq : q = wEn B n p) (hp : pL (bt B n p) = true) : (∀ c, c ∈ wd B p q → pL c = true) ∧ 0 < (wd B p q).length := by
  subst hq
  have hgt := wEn_gt hp
  have hle := wEn_le (B := B) (n := n) (k := p) (Nat.le_of_lt (pL_in hp))
  constructor
  · intro c hc
    unfold wd at hc
    obtain ⟨i, hi, rfl⟩ := List.mem_map.mp hc
    rw [List.mem_range] at hi
    have := rnE_all (q := fun j => pL (bt B n j)) (n := n) _ p rfl (p + i) (by omega) (by show _ < wEn B n p; omega)
    simp only [bt_lt (show p + i < n by omega)] at this
    exact this
  · rw [wd_len]; omega
theorem T_name_58_law {K : Int64 → Sto → Prop} (hT : TxT τ0 B n) {p : Nat} (hp0 : pL (bt B n p) = true)
    (h1 : wEn B n p - p ≤ 6 → ∀ τ', RQ τ0 B n τ' (wEn B n p) C W o bs → τ'.1 0 38 = nI p → K (nmL (wd B p (wEn B n p))) τ')
    (h2 : 6 < wEn B n p - p → ∀ r τ', RFc C.length τ0 τ' 1 (p + 6) → K r τ') :
    ∀ (d f j : Nat) (τ : Sto), 6 - j = d → d < f → j ≤ 6 → p + j ≤ wEn B n p → RQg (fun _ => True) τ0 n τ (p + j) C W o bs → τ.1 0 38 = nI p → T_name_58 K f (nmL (wd B p (p + j))) τ := by
  have hn := hT.1
  have hpn := pL_in hp0
  have hle := wEn_le (B := B) (n := n) (k := p) (Nat.le_of_lt hpn)
  have h0 := wEn_gt hp0
  have hz : pL (bt B n (wEn B n p)) = false := rnE_false (q := fun j => pL (bt B n j)) (n := n) pL_out _ p rfl
  have hlet : ∀ j, p + j < wEn B n p → pL (B (p + j)) = true := by
    intro j hj
    have := rnE_all (q := fun j => pL (bt B n j)) (n := n) _ p rfl (p + j) (by omega) hj
    simp only [bt_lt (show p + j < n by omega)] at this
    exact this
  intro d
  induction d with
  | zero =>
    intro f j τ hd hf hj hjl h h38
    obtain ⟨f, rfl⟩ : ∃ f', f = f' + 1 := ⟨f - 1, by omega⟩
    obtain rfl : j = 6 := by omega
    have hend : wEn B n p = p + 6 → (∀ τ1 : Sto, τ1 = sI τ 0 4 (τ.1 0 2) → K (nmL (wd B p (p + 6))) τ1) := by
      intro e
      refine st_ ?_
      rw [h.at_]
      have hq : RQ τ0 B n (sI τ 0 4 (nI (p + 6))) (p + 6) C W o bs := by
        have := h.goW (E' := EnO B n (p + 6)) (k' := p + 6) (by omega) (EnO.ends hn (by omega) (by omega) (Or.inl (by rw [← e]; exact wEn_last hp0)))
        rw [sI_id h.at_] at this
        exact this
      have := h1 (by omega) _ (by rw [e]; exact hq) (by rw [sI_ne (by simp)]; exact h38)
      rw [e] at this
      exact this
    unfold T_name_58
    rw [h.end_ hT]
    rw [show (nI n ≤ τ.1 0 2) = (nI n ≤ nI (p + 6)) by rw [h.at_]]
    by_cases hpn6 : n ≤ p + 6
    · exact br_t (nI_le (by omega) (by omega)) (hend (by omega))
    · have hB := hT.2.2.2.1 (p + 6)
      refine br_f (nI_ge (by omega) (by omega)) ⟨by rw [h.at_]; exact vi_ (by omega) (by omega), ?_⟩
      rw [show τ.1 1 (Int32.toNatClampNeg (τ.1 0 2)) = cI (B (p + 6)) by rw [h.at_, nI_clamp (by omega), h.tape hT (by omega), cI_in (by omega)]]
      refine T_isLetter_law (by omega) ?_
      cases e : pL (B (p + 6)) with
      | false =>
        refine br_t rfl (hend ?_)
        by_cases e4 : wEn B n p = p + 6
        · exact e4
        · have := hlet 6 (by omega)
          rw [e] at this; cases this
      | true =>
        have hne : p + 6 ≠ wEn B n p := by
          intro z; rw [← z, bt_lt (by omega), e] at hz; cases hz
        refine br_f (by decide) ?_
        rw [h38, h.at_, nI_sub (by omega), show p + 6 - p = 6 by omega]
        exact bn_f rfl (T_fail_law h (kd := 1) rfl rfl (by omega) (by omega) fun τ' g => h2 (by omega) _ τ' g)
  | succ d ih =>
    intro f j τ hd hf hj hjl h h38
    obtain ⟨f, rfl⟩ : ∃ f', f = f' + 1 := ⟨f - 1, by omega⟩
    have hend : wEn B n p = p + j → (∀ τ1 : Sto, τ1 = sI τ 0 4 (τ.1 0 2) → K (nmL (wd B p (p + j))) τ1) := by
      intro e
      refine st_ ?_
      rw [h.at_]
      have hq : RQ τ0 B n (sI τ 0 4 (nI (p + j))) (p + j) C W o bs := by
        have := h.goW (E' := EnO B n (p + j)) (k' := p + j) (by omega) (EnO.ends hn (by omega) (by omega) (Or.inl (by rw [← e]; exact wEn_last hp0)))
        rw [sI_id h.at_] at this
        exact this
      have := h1 (by omega) _ (by rw [e]; exact hq) (by rw [sI_ne (by simp)]; exact h38)
      rw [e] at this
      exact this
    unfold T_name_58
    rw [h.end_ hT]
    rw [show (nI n ≤ τ.1 0 2) = (nI n ≤ nI (p + j)) by rw [h.at_]]
    by_cases hpn6 : n ≤ p + j
    · exact br_t (nI_le (by omega) (by omega)) (hend (by omega))
    · have hB := hT.2.2.2.1 (p + j)
      have er : τ.1 1 (Int32.toNatClampNeg (τ.1 0 2)) = nI (B (p + j)) := by rw [h.at_, nI_clamp (by omega), h.tape hT (by omega)]
      refine br_f (nI_ge (by omega) (by omega)) ⟨by rw [h.at_]; exact vi_ (by omega) (by omega), ?_⟩
      rw [er, ← cI_in (by omega : B (p + j) ≠ 256)]
      refine T_isLetter_law (by omega) ?_
      cases e : pL (B (p + j)) with
      | false =>
        refine br_t rfl (hend ?_)
        by_cases e4 : wEn B n p = p + j
        · exact e4
        · have := hlet j (by omega)
          rw [e] at this; cases this
      | true =>
        have hne : p + j ≠ wEn B n p := by
          intro z; rw [← z, bt_lt (by omega), e] at hz; cases hz
        refine br_f (by decide) ?_
        rw [h38, show τ.1 0 2 - nI p = nI j by rw [h.at_, nI_sub (by omega), show p + j - p = j by omega]]
        refine bn_t (fun z => absurd ((nI_eq (b := 6) (by omega) (by omega)).mp z) (by omega)) ⟨by rw [h.at_]; exact vi_ (by omega) (by omega), st_ (st_ ?_)⟩
        rw [er, h.at_, nI_1]
        have := ih f (j + 1) (sI τ 0 2 (nI (p + (j + 1)))) (by omega) (by omega) (by omega) (by omega) (h.go (by omega) trivial) (by rw [sI_ne (by simp)]; exact h38)
        rw [wd_snoc, nmL_snoc] at this
        exact this
theorem T_name_law {K : Int64 → Sto → Prop} (hT : TxT τ0 B n) (h : RQ τ0 B n τ k C W o bs)
    (h1 : ∀ p q, pNm0 B n k = .inr (p, q) → ∀ τ', RQ τ0 B n τ' q C W o bs → τ'.1 0 38 = nI p → K (nmL (wd B p q)) τ') (h0 : ∀ kd pl, pNm0 B n k = .inl (kd, pl) → ∀ r τ', RFc C.length τ0 τ' kd pl → K r τ') : T_name τ K := by
  have hn := hT.1
  refine br_t h.bad (T_look_law hT h fun τ1 g => T_isLetter_law (bt_le hT.2.2.2.1) ?_)
  have hkn := skp_le (B := B) h.kn
  have hen := g.en.2
  rw [skp_idem] at hen
  cases e : pL (bt B n (skp B n k)) with
  | false =>
    have hun : pNm0 B n k = .inl (1, skp B n k) := by unfold pNm0 pWord; simp [okW, e, rsB]
    exact br_t rfl (T_fail_law g (kd := 1) rfl g.at_ (by omega) (by omega) fun τ' g' => h0 _ _ hun _ τ' g')
  | true =>
    refine br_f (by decide) ?_
    cases ea : pA B (skp B n k) with
    | true =>
      have hun : pNm0 B n k = .inl (1, skp B n k) := by unfold pNm0 pWord; simp [okW, ea, rsB]
      exact br_t (by rw [g.at_]; exact (hen.mpr ea).symm) (T_fail_law g (kd := 1) rfl g.at_ (by omega) (by omega) fun τ' g' => h0 _ _ hun _ τ' g')
    | false =>
      have how : okW B n (skp B n k) = true := by simp [okW, e, ea]
      have hun : pNm0 B n k = if isOwn (wHe B n k) then .inl (1, skp B n k) else if 6 < wEn B n (skp B n k) - skp B n k then .inl (1, skp B n k + 6) else .inr (skp B n k, wEn B n (skp B n k)) := by
        unfold pNm0 pWord; rw [if_pos how]; rfl
      refine br_f (fun z => by rw [g.at_] at z; rw [hen.mp z.symm] at ea; cases ea) (T_isOwnHere_law hT g (fun w hw hh τ2 g2 => ?_) (fun hno τ2 g2 => ?_))
      · rw [hereW_skp, hereW_eq, how, Bool.true_and, decide_eq_true_eq] at hh
        have : isOwn (wHe B n k) = true := by
          unfold isOwn
          rw [List.any_eq_true]
          exact ⟨w, hw, by simp [hh]⟩
        rw [if_pos this] at hun
        rw [skp_idem] at g2
        exact br_f (by decide) (T_fail_law g2 (kd := 1) rfl g2.at_ (by omega) (by omega) fun τ' g' => h0 _ _ hun _ τ' g')
      · have : ¬ isOwn (wHe B n k) = true := by
          intro z
          unfold isOwn at z
          rw [List.any_eq_true] at z
          obtain ⟨w, hw, hw2⟩ := z
          rw [decide_eq_true_eq] at hw2
          have := hno w hw
          rw [hereW_skp, hereW_eq, how, hw2] at this
          simp at this
        rw [if_neg this] at hun
        rw [skp_idem] at g2
        refine br_t rfl (st_ ⟨7, ?_⟩)
        have h00 := wEn_gt e
        rw [g2.at_]
        have g3 : RQg (fun _ => True) τ0 n (sI τ2 0 38 (nI (skp B n k))) (skp B n k + 0) C W o bs := by
          have g3 := g2.name (v := nI (skp B n k))
          exact ⟨g3.1, g3.2.1, g3.2.2.1, trivial, g3.2.2.2.2⟩
        have := T_name_58_law (K := K) hT e (fun hl τ' g' h38 => h1 _ _ (by rw [hun, if_neg (by omega)]) τ' g' h38) (fun hl r τ' g' => h0 _ _ (by rw [hun, if_pos hl]) r τ' g') 6 7 0 _ rfl (by omega) (by omega) (by omega) g3 (sI_same ..)
        rw [show wd B (skp B n k) (skp B n k + 0) = [] by unfold wd; simp] at this
        exact this
theorem T_isFull_law {K : Int32 → Sto → Prop} (h : RQ τ0 B n τ k C W o bs) {kd room begun cnt : Nat} {x1 x2 x3 : Int32} (e1 : x1 = nI kd) (e2 : x2 = nI room) (e3 : x3 = nI begun) (hkd : kd < 3) (hroom : room < 100) (hc : τ0.1 40 kd = nI cnt) (hcnt : cnt < 100)
    (h1 : cnt = room → ∀ τ', RFc C.length τ0 τ' 5 begun → K 1 τ') (h0 : cnt ≠ room → K 0 τ) : T_isFull τ x1 x2 x3 K := by
  subst e1 e2 e3
  refine bn_f h.bad ⟨vi_ (by omega) (by omega), ?_⟩
  rw [nI_clamp (by omega), h.fr.1 40 kd (by simp [scrQ]), hc]
  by_cases e : cnt = room
  · refine bn_f (by rw [e]) (T_fail_law h (kd := 5) rfl rfl (by omega) (by omega) fun τ' g => br_f g.bad (h1 e τ' g))
  · exact bn_t (fun z => e ((nI_eq (by omega) (by omega)).mp z)) (br_t h.bad (h0 e))
theorem T_isFull_bad {K : Int32 → Sto → Prop} {x1 x2 x3 : Int32} (h : ¬ τ.1 0 5 = 0) (hk : K 1 τ) : T_isFull τ x1 x2 x3 K := bn_t h (br_f h hk)
end TN
