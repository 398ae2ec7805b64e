/-! PURE SIDE, the model's reader: new names; what is told lies in the store. -/
section TNN
variable {τ0 τ : Sto} {B : Byt} {n k o bs : Nat} {C W : List Int32} {I : Isl}
/-- how many there are, and their names, as the store has them -/
def NamT (τ : Sto) (I : Isl) : Prop := (∀ kd, kd < 3 → τ.1 40 kd = nI (iC I kd)) ∧ (∀ kd, kd < 3 → iC I kd ≤ 8) ∧ ∀ kd j, kd < 3 → j < iC I kd → τ.2.1 41 (8 * kd + j) = nmL (iN I (8 * kd + j)) ∧ letW (iN I (8 * kd + j))
theorem newName_bad {K : Int64 → Sto → Prop} {x : Int64} (hc : ∀ kd, kd < 3 → τ.1 40 kd = nI (iC I kd)) (hb : ∀ kd, kd < 3 → iC I kd ≤ 8) (hbad : ¬ τ.1 0 5 = 0) (hk : K x τ) : ∀ (e f kd : Nat), 3 - kd = e → e < f → kd ≤ 3 → T_newName_7 K x f (nI kd) τ := by
  intro e
  induction e with
  | zero =>
    intro f kd he hf hkd
    obtain ⟨f, rfl⟩ : ∃ f', f = f' + 1 := ⟨f - 1, by omega⟩
    obtain rfl : kd = 3 := by omega
    unfold T_newName_7
    exact br_t (by decide) hk
  | succ e ih =>
    intro f kd he hf hkd
    obtain ⟨f, rfl⟩ : ∃ f', f = f' + 1 := ⟨f - 1, by omega⟩
    unfold T_newName_7
    refine br_f (show ¬ (nI 3 ≤ nI kd) from nI_ge (by omega) (by omega)) ⟨iC I kd + 1, ?_⟩
    have lp : ∀ (d m j : Nat), iC I kd - j = d → d < m → j ≤ iC I kd → T_newName_15 K (T_newName_7 K x f) x (nI kd) m (nI j) τ := by
      intro d
      induction d with
      | zero =>
        intro m j hd hm hj
        obtain ⟨m, rfl⟩ : ∃ m', m = m' + 1 := ⟨m - 1, by omega⟩
        have := hb kd (by omega)
        unfold T_newName_15
        rw [nI_clamp (by omega), hc kd (by omega)]
        refine ⟨vi_ (by omega) (by omega), br_t (nI_le (by omega) (by omega)) ?_⟩
        rw [nI_1]
        exact ih f (kd + 1) (by omega) (by omega) (by omega)
      | succ d ihd =>
        intro m j hd hm hj
        obtain ⟨m, rfl⟩ : ∃ m', m = m' + 1 := ⟨m - 1, by omega⟩
        have := hb kd (by omega)
        unfold T_newName_15
        rw [nI_clamp (by omega), hc kd (by omega)]
        refine ⟨vi_ (by omega) (by omega), br_f (nI_ge (by omega) (by omega)) (bn_t hbad ?_)⟩
        rw [nI_1]
        exact ihd m (j + 1) (by omega) (by omega) (by omega)
    exact lp (iC I kd) _ 0 (by omega) (by omega) (by omega)
theorem newName_good {K : Int64 → Sto → Prop} (h : RQ τ0 B n τ k C W o bs) (hN : NamT τ0 I) {nm : List Nat} (hl : letW nm) {p : Nat} (h38 : τ.1 0 38 = nI p)
    (h1 : isNam I nm = true → ∀ τ', RFc C.length τ0 τ' 3 p → K (nmL nm) τ') (h0 : isNam I nm = false → K (nmL nm) τ) :
    ∀ (e f kd : Nat), 3 - kd = e → e < f → kd ≤ 3 → (∀ kd' j, kd' < kd → j < iC I kd' → iN I (8 * kd' + j) ≠ nm) → T_newName_7 K (nmL nm) f (nI kd) τ := by
  obtain ⟨hc0, hb, hnm⟩ := hN
  have hfr : ∀ {τ' : Sto}, FrQ τ0 τ' → ∀ kd, kd < 3 → τ'.1 40 kd = nI (iC I kd) := fun hf kd hkd => by rw [hf.1 40 kd (by simp [scrQ])]; exact hc0 kd hkd
  have hc := hfr h.fr
  intro e
  induction e with
  | zero =>
    intro f kd he hf hkd hno
    obtain ⟨f, rfl⟩ : ∃ f', f = f' + 1 := ⟨f - 1, by omega⟩
    obtain rfl : kd = 3 := by omega
    unfold T_newName_7
    refine br_t (by decide) (h0 ?_)
    unfold isNam
    rw [List.any_eq_false]
    intro kd hkd
    rw [List.mem_range] at hkd
    rw [Bool.not_eq_true, List.any_eq_false]
    intro j hj
    rw [List.mem_range] at hj
    simp only [decide_eq_true_eq]
    exact hno kd j hkd hj
  | succ e ih =>
    intro f kd he hf hkd hno
    obtain ⟨f, rfl⟩ : ∃ f', f = f' + 1 := ⟨f - 1, by omega⟩
    unfold T_newName_7
    refine br_f (show ¬ (nI 3 ≤ nI kd) from nI_ge (by omega) (by omega)) ⟨iC I kd + 1, ?_⟩
    have lp : ∀ (d m j : Nat), iC I kd - j = d → d < m → j ≤ iC I kd → (∀ j', j' < j → iN I (8 * kd + j') ≠ nm) → T_newName_15 K (T_newName_7 K (nmL nm) f) (nmL nm) (nI kd) m (nI j) τ := by
      intro d
      induction d with
      | zero =>
        intro m j hd hm hj hjn
        obtain ⟨m, rfl⟩ : ∃ m', m = m' + 1 := ⟨m - 1, by omega⟩
        have := hb kd (by omega)
        unfold T_newName_15
        rw [nI_clamp (by omega), hc kd (by omega)]
        refine ⟨vi_ (by omega) (by omega), br_t (nI_le (by omega) (by omega)) ?_⟩
        rw [nI_1]
        refine ih f (kd + 1) (by omega) (by omega) (by omega) (fun kd' j' hk' hj' => ?_)
        by_cases e : kd' = kd
        · subst e; exact hjn j' (by omega)
        · exact hno kd' j' (by omega) hj'
      | succ d ihd =>
        intro m j hd hm hj hjn
        obtain ⟨m, rfl⟩ : ∃ m', m = m' + 1 := ⟨m - 1, by omega⟩
        have hb' := hb kd (by omega)
        obtain ⟨q1, q2⟩ := hnm kd j (by omega) (by omega)
        unfold T_newName_15
        rw [nI_clamp (by omega), hc kd (by omega)]
        refine ⟨vi_ (by omega) (by omega), br_f (nI_ge (by omega) (by omega)) (bn_f h.bad ?_)⟩
        rw [show (8 : Int32) * nI kd + nI j = nI (8 * kd + j) by show nI 8 * nI kd + nI j = _; rw [nI_mul, nI_add], nI_clamp (by omega), h.fr.2, q1, nmL_inj q2 hl, nI_1]
        refine ⟨vi_ (by omega) (by omega), ?_⟩
        by_cases e : iN I (8 * kd + j) = nm
        · refine bn_f e (T_fail_law h (kd := 3) rfl h38 (by omega) (by omega) fun τ' g => ?_)
          have hnam : isNam I nm = true := by
            unfold isNam
            rw [List.any_eq_true]
            refine ⟨kd, by rw [List.mem_range]; omega, ?_⟩
            rw [List.any_eq_true]
            exact ⟨j, by rw [List.mem_range]; omega, by simp [e]⟩
          have hK := h1 hnam τ' g
          have hc' := hfr g.1
          have lp2 : ∀ (d m j : Nat), iC I kd - j = d → d < m → j ≤ iC I kd → T_newName_15 K (T_newName_7 K (nmL nm) f) (nmL nm) (nI kd) m (nI j) τ' := by
            intro d
            induction d with
            | zero =>
              intro m j hd hm hj
              obtain ⟨m, rfl⟩ : ∃ m', m = m' + 1 := ⟨m - 1, by omega⟩
              unfold T_newName_15
              rw [nI_clamp (by omega), hc' kd (by omega)]
              refine ⟨vi_ (by omega) (by omega), br_t (nI_le (by omega) (by omega)) ?_⟩
              rw [nI_1]
              exact newName_bad hc' hb g.bad hK (3 - (kd + 1)) f (kd + 1) rfl (by omega) (by omega)
            | succ d ihd =>
              intro m j hd hm hj
              obtain ⟨m, rfl⟩ : ∃ m', m = m' + 1 := ⟨m - 1, by omega⟩
              unfold T_newName_15
              rw [nI_clamp (by omega), hc' kd (by omega)]
              refine ⟨vi_ (by omega) (by omega), br_f (nI_ge (by omega) (by omega)) (bn_t g.bad ?_)⟩
              rw [nI_1]
              exact ihd m (j + 1) (by omega) (by omega) (by omega)
          exact lp2 d m (j + 1) (by omega) (by omega) (by omega)
        · refine bn_t e (ihd m (j + 1) (by omega) (by omega) (by omega) (fun j' hj' => ?_))
          by_cases e2 : j' = j
          · subst e2; exact e
          · exact hjn j' (by omega)
    exact lp (iC I kd) _ 0 (by omega) (by omega) (by omega) (fun j' hj' => absurd hj' (by omega))
theorem T_newName_law {K : Int64 → Sto → Prop} (hT : TxT τ0 B n) (h : RQ τ0 B n τ k C W o bs) (hN : NamT τ0 I)
    (h1 : ∀ nm q, pNme B n I k = .inr (nm, q) → letW nm → ∀ τ', RQ τ0 B n τ' q C W o bs → K (nmL nm) τ') (h0 : ∀ kd pl, pNme B n I k = .inl (kd, pl) → ∀ r τ', RFc C.length τ0 τ' kd pl → K r τ') : T_newName τ K := by
  have hfr : ∀ {τ' : Sto}, FrQ τ0 τ' → ∀ kd, kd < 3 → τ'.1 40 kd = nI (iC I kd) := fun hf kd hkd => by rw [hf.1 40 kd (by simp [scrQ])]; exact hN.1 kd hkd
  refine T_name_law hT h (fun p q e τ1 g h38 => ?_) (fun kd pl e r τ1 g => ?_)
  · have hun : pNme B n I k = if isNam I (wd B p q) then .inl (3, p) else .inr (wd B p q, q) := by rw [pNme_eq, e]; rfl
    have hl : letW (wd B p q) := by
      unfold pNm0 pWord at e
      by_cases how : okW B n (skp B n k) = true
      · rw [if_pos how] at e
        by_cases q1 : isOwn (wd B (skp B n k) (wEn B n (skp B n k))) = true
        · simp only [rsB, if_pos q1] at e; cases e
        · simp only [rsB, if_neg q1] at e
          by_cases q2 : 6 < wEn B n (skp B n k) - skp B n k
          · rw [if_pos q2] at e; cases e
          · rw [if_neg q2] at e
            obtain ⟨rfl, rfl⟩ := Prod.mk.inj (Sum.inr.inj e)
            have := wd_let (B := B) (n := n) rfl (okW_pL how)
            exact ⟨this.1, this.2, by rw [wd_len]; omega⟩
      · rw [if_neg how] at e; cases e
    refine ⟨4, newName_good g hN hl h38 (fun hn τ' g' => h0 3 p (by rw [hun, if_pos hn]) _ τ' g') (fun hn => h1 _ q (by rw [hun, if_neg (by rw [hn]; decide)]) hl τ1 g) 3 4 0 rfl (by omega) (by omega) (fun kd' j hk => absurd hk (by omega))⟩
  · have hun : pNme B n I k = .inl (kd, pl) := by rw [pNme_eq, e]; rfl
    exact ⟨4, newName_bad (hfr g.1) hN.2.1 g.bad (h0 kd pl hun r τ1 g) 3 4 0 rfl (by omega) (by omega)⟩
theorem T_newName_bad {K : Int64 → Sto → Prop} (hc : ∀ kd, kd < 3 → τ.1 40 kd = nI (iC I kd)) (hb : ∀ kd, kd < 3 → iC I kd ≤ 8) (h : ¬ τ.1 0 5 = 0) (hk : K 0 τ) : T_newName τ K := br_f h ⟨4, newName_bad hc hb h hk 3 4 0 rfl (by omega) (by omega)⟩
theorem T_adds_law {K : Int32 → Sto → Prop} {kd cnt : Nat} {v : Int64} {x1 : Int32} (e1 : x1 = nI kd) (hkd : kd < 3) (hc : τ.1 40 kd = nI cnt) (hcn : cnt < 8) (hk : K (nI cnt) (sI (sL τ 41 (8 * kd + cnt) v) 40 kd (nI (cnt + 1)))) : T_adds τ x1 v K := by
  subst e1
  unfold T_adds
  rw [nI_clamp (by omega), hc, show (8 : Int32) * nI kd + nI cnt = nI (8 * kd + cnt) by show nI 8 * nI kd + nI cnt = _; rw [nI_mul, nI_add], nI_clamp (by omega)]
  refine ⟨vi_ (by omega) (by omega), vi_ (by omega) (by omega), st_ ⟨vi_ (by omega) (by omega), vi_ (by omega) (by omega), st_ ⟨vi_ (by omega) (by omega), ?_⟩⟩⟩
  rw [sL_1, hc, nI_1, sI_same, nI_pred]
  exact hk
end TNN
