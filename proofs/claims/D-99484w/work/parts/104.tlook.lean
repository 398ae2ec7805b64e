/-! PURE SIDE, the model's reader: look, words, signs, numbers. -/
theorem nI_sub {a b : Nat} (h : b ≤ a) : nI a - nI b = nI (a - b) := by
  have e : nI a = nI (a - b) + nI b := by rw [nI_add, Nat.sub_add_cancel h]
  rw [e, Int32.add_sub_cancel]
theorem bt_le {B : Byt} {n k : Nat} (hB : ∀ i, B i < 256) : bt B n k ≤ 256 := by
  unfold bt; split
  · exact Nat.le_of_lt (hB k)
  · exact Nat.le_refl _
theorem cI_in {c : Nat} (h : c ≠ 256) : cI c = nI c := by simp [cI, h]
theorem cI_eq {c d : Nat} (hc : c ≤ 256) (hd : d < 256) : cI c = nI d ↔ c = d := by
  unfold cI
  by_cases h : c = 256
  · rw [if_pos h]
    constructor
    · intro z; exact absurd z (nI_m1 (by omega))
    · intro z; omega
  · rw [if_neg h]; exact nI_eq (by omega) (by omega)
theorem cI_n1 {c : Nat} (hc : c ≤ 256) : cI c = -1 ↔ c = 256 := by
  unfold cI
  by_cases h : c = 256
  · simp [h]
  · rw [if_neg h]
    constructor
    · intro z; exact absurd z.symm (nI_m1 (by omega))
    · intro z; exact absurd z h
theorem T_isLetter_law {τ : Sto} {c : Nat} {K : Int32 → Sto → Prop} (hc : c ≤ 256) (hk : K (b1 (pL c)) τ) : T_isLetter τ (cI c) K := by
  unfold T_isLetter
  by_cases h : c = 256
  · subst h; exact br_t (by decide) hk
  · rw [cI_in h, show (97 : Int32) = nI 97 from rfl, show (122 : Int32) = nI 122 from rfl, nI_ltI (by omega) (by omega), nI_ltI (by omega) (by omega)]
    by_cases h1 : c < 97
    · refine br_t h1 ?_
      have : pL c = false := by simp [pL]; omega
      rw [this] at hk; exact hk
    · refine br_f h1 ?_
      by_cases h2 : 122 < c
      · refine br_t h2 ?_
        have : pL c = false := by simp [pL]; omega
        rw [this] at hk; exact hk
      · refine br_f h2 ?_
        have : pL c = true := by simp [pL]; omega
        rw [this] at hk; exact hk
theorem T_isDigit_law {τ : Sto} {c : Nat} {K : Int32 → Sto → Prop} (hc : c ≤ 256) (hk : K (b1 (pD c)) τ) : T_isDigit τ (cI c) K := by
  unfold T_isDigit
  by_cases h : c = 256
  · subst h; exact br_t (by decide) hk
  · rw [cI_in h, show (48 : Int32) = nI 48 from rfl, show (57 : Int32) = nI 57 from rfl, nI_ltI (by omega) (by omega), nI_ltI (by omega) (by omega)]
    by_cases h1 : c < 48
    · refine br_t h1 ?_
      have : pD c = false := by simp [pD]; omega
      rw [this] at hk; exact hk
    · refine br_f h1 ?_
      by_cases h2 : 57 < c
      · refine br_t h2 ?_
        have : pD c = false := by simp [pD]; omega
        rw [this] at hk; exact hk
      · refine br_f h2 ?_
        have : pD c = true := by simp [pD]; omega
        rw [this] at hk; exact hk
section TL
variable {τ0 τ : Sto} {B : Byt} {n k o bs : Nat} {C W : List Int32}
theorem T_fail_law {E : Int32 → Prop} {K : Sto → Prop} (h : RQg E τ0 n τ k C W o bs) {kd pl : Nat} {x1 x2 : Int32} (e1 : x1 = nI kd) (e2 : x2 = nI pl) (h0 : 0 < kd) (h1 : kd < 10) (hk : ∀ τ', RFc C.length τ0 τ' kd pl → K τ') : T_fail τ x1 x2 K := by
  subst e1 e2
  refine br_t h.bad (st_ (st_ ?_))
  exact hk _ (h.fails h0 h1)
theorem T_look_0_law {K : Int32 → Sto → Prop} (hT : TxT τ0 B n) : ∀ (d f k : Nat) (τ : Sto), n - k = d → d < f → RQ τ0 B n τ k C W o bs → (∀ τ', RQ τ0 B n τ' (skp B n k) C W o bs → K (cI (bt B n (skp B n k))) τ') → T_look_0 K f τ := by
  have hn := hT.1
  intro d
  induction d with
  | zero =>
    intro f k τ hd hf h hk
    obtain ⟨f, rfl⟩ : ∃ f', f = f' + 1 := ⟨f - 1, by omega⟩
    have hkn := h.kn
    have e : k = n := by omega
    unfold T_look_0
    rw [h.end_ hT, h.at_]
    refine br_t (nI_le (by omega) (by omega)) ?_
    unfold T_look_52
    rw [h.end_ hT, h.at_]
    refine br_t (nI_le (by omega) (by omega)) ?_
    have e1 : bt B n k = 256 := bt_ge (by omega)
    have e2 : skp B n k = k := skp_stop (by rw [e1]; decide)
    have := hk τ (by rw [e2]; exact h)
    rw [e2, e1] at this
    exact this
  | succ d ih =>
    intro f k τ hd hf h hk
    obtain ⟨f, rfl⟩ : ∃ f', f = f' + 1 := ⟨f - 1, by omega⟩
    have hkn : k < n := by omega
    have hB := hT.2.2.2.1 k
    have e1 : bt B n k = B k := bt_lt hkn
    have er : τ.1 1 (Int32.toNatClampNeg (τ.1 0 2)) = nI (B k) := by rw [h.at_, nI_clamp (by omega)]; exact h.tape hT hkn
    have hlt : ¬ τ.1 0 3 ≤ τ.1 0 2 := by rw [h.end_ hT, h.at_]; exact nI_ge (by omega) (by omega)
    have hin : vp_in (τ.1 0 2) 1600 := by rw [h.at_]; exact vi_ (by omega) (by omega)
    have ha : τ.1 0 2 + 1 = nI (k + 1) := by rw [h.at_]; exact nI_1 k
    unfold T_look_0
    refine br_f hlt ⟨hin, ?_⟩
    rw [er]
    have hstep : bl (bt B n k) = true → T_look_0 K f (sI τ 0 2 (nI (k + 1))) := by
      intro hb
      have es := skp_step hb hkn
      refine ih f (k + 1) _ (by omega) (by omega) (h.go (by omega) ?_) (by rw [← es]; exact hk)
      rw [e1] at hb
      exact h.en.sign hn hkn (bl_not hb).1 (bl_not hb).2
    by_cases h10 : B k = 10
    · refine br_t (by rw [h10]; rfl) (st_ ?_)
      rw [ha]
      exact hstep (by rw [e1, h10]; decide)
    · refine br_f (fun z => h10 ((nI_eq (by omega) (by omega)).mp z)) ⟨hin, ?_⟩
      by_cases h32 : B k = 32
      · refine bn_f (by rw [h32]; rfl) (st_ ?_)
        rw [ha]
        exact hstep (by rw [e1, h32]; decide)
      · refine bn_t (fun z => h32 ((nI_eq (by omega) (by omega)).mp z)) ?_
        unfold T_look_52
        refine br_f hlt ⟨hin, ?_⟩
        rw [er]
        have hb : bl (bt B n k) = false := by rw [e1]; simp [bl, h10, h32]
        have e2 : skp B n k = k := skp_stop hb
        have := hk τ (by rw [e2]; exact h)
        rw [e2, e1, cI_in (by omega)] at this
        exact this
theorem T_look_law {K : Int32 → Sto → Prop} (hT : TxT τ0 B n) (h : RQ τ0 B n τ k C W o bs) (hk : ∀ τ', RQ τ0 B n τ' (skp B n k) C W o bs → K (cI (bt B n (skp B n k))) τ') : T_look τ K := ⟨n - k + 1, T_look_0_law hT (n - k) _ k τ rfl (by omega) h hk⟩
theorem wd_eq {B : Byt} {p q : Nat} {w : List Nat} (h : q - p = w.length) : wd B p q = w ↔ ∀ j, j < w.length → B (p + j) = w.getD j 0 := by
  unfold wd
  rw [h]
  constructor
  · intro z j hj
    have := congrArg (fun l => l.getD j 0) z
    simp only [List.getD_eq_getElem?_getD] at this ⊢
    rw [← this, List.getElem?_map, List.getElem?_range hj]
    rfl
  · intro z
    apply List.ext_getElem
    · simp
    · intro j h1 h2
      simp only [List.getElem_map, List.getElem_range]
      rw [z j h2]
      simp [List.getD_eq_getElem?_getD, h2]
theorem T_isHere_76_law {K : Int32 → Sto → Prop} (hT : TxT τ0 B n) (h : RQ τ0 B n τ k C W o bs) {p : Nat × List Nat} (hp : p ∈ wTab) (hw : k + p.2.length ≤ n) : ∀ (d f i : Nat), p.2.length - i = d → d < f → i ≤ p.2.length → (∀ j, j < i → B (k + j) = p.2.getD j 0) → K (b1 (decide (wd B k (k + p.2.length) = p.2))) τ → T_isHere_76 K p.1 f (nI i) τ := by
  have hn := hT.1
  have hs := wTab_short p hp
  intro d
  induction d with
  | zero =>
    intro f i hd hf hi hj hk
    obtain ⟨f, rfl⟩ : ∃ f', f = f' + 1 := ⟨f - 1, by omega⟩
    unfold T_isHere_76
    rw [wTab_len hp]
    refine ⟨wTab_L p hp, br_t (nI_le (by omega) (by omega)) ?_⟩
    have e : decide (wd B k (k + p.2.length) = p.2) = true := by
      rw [decide_eq_true_eq, wd_eq (by omega)]
      exact fun j hjj => hj j (by omega)
    rw [e] at hk
    exact hk
  | succ d ih =>
    intro f i hd hf hi hj hk
    obtain ⟨f, rfl⟩ : ∃ f', f = f' + 1 := ⟨f - 1, by omega⟩
    unfold T_isHere_76
    rw [wTab_len hp]
    refine ⟨wTab_L p hp, br_f (nI_ge (by omega) (by omega)) ⟨?_, wTab_L p hp, vi_ (by omega) (by omega), ?_⟩⟩
    · rw [h.at_, nI_add]; exact vi_ (by omega) (by omega)
    · rw [h.at_, nI_add, nI_clamp (by omega), nI_clamp (by omega), h.tape hT (by omega), h.fr.1 p.1 i, hT.2.2.2.2 p hp i (by omega)]
      · have hB := hT.2.2.2.1 (k + i)
        have hv : p.2.getD i 0 < 256 := by
          have : ∀ p, p ∈ wTab → ∀ x, x ∈ p.2 → x < 256 := by decide
          apply this p hp
          rw [List.getD_eq_getElem?_getD, List.getElem?_eq_getElem (by omega)]
          exact List.getElem_mem _
        by_cases e : B (k + i) = p.2.getD i 0
        · refine br_t (by rw [e]) ?_
          rw [nI_1]
          refine ih f (i + 1) (by omega) (by omega) (by omega) (fun j hjj => ?_) hk
          by_cases e2 : j = i
          · subst e2; exact e
          · exact hj j (by omega)
        · refine br_f (fun z => e ((nI_eq (by omega) (by omega)).mp z)) ?_
          have e : decide (wd B k (k + p.2.length) = p.2) = false := by
            rw [decide_eq_false_iff_not, wd_eq (by omega)]
            exact fun z => e (z i (by omega))
          rw [e] at hk
          exact hk
      · have : ∀ p, p ∈ wTab → p.1 ≠ 0 ∧ p.1 ≠ 92 ∧ p.1 ≠ 94 := by decide
        have := this p hp
        simp [scrQ, this]
theorem T_isHere_35_law {K : Int32 → Sto → Prop} (hT : TxT τ0 B n) (h : RQ τ0 B n τ k C W o bs) (x1 : Nat) : ∀ (d f j : Nat), n - j = d → d < f → j ≤ n → T_isHere_61 K x1 (nI (wEn B n j)) τ → T_isHere_35 K x1 f (nI j) τ := by
  have hn := hT.1
  intro d
  induction d with
  | zero =>
    intro f j hd hf hj hk
    obtain ⟨f, rfl⟩ : ∃ f', f = f' + 1 := ⟨f - 1, by omega⟩
    unfold T_isHere_35
    rw [h.end_ hT]
    refine br_t (nI_le (by omega) (by omega)) ?_
    have e : wEn B n j = j := rnE_stop (q := fun j => pL (bt B n j)) (pL_out j (by omega))
    rw [e] at hk
    exact hk
  | succ d ih =>
    intro f j hd hf hj hk
    obtain ⟨f, rfl⟩ : ∃ f', f = f' + 1 := ⟨f - 1, by omega⟩
    have hjn : j < n := by omega
    have hB := hT.2.2.2.1 j
    unfold T_isHere_35
    rw [h.end_ hT]
    refine br_f (nI_ge (by omega) (by omega)) ⟨vi_ (by omega) (by omega), ?_⟩
    rw [nI_clamp (by omega), h.tape hT hjn, ← cI_in (by omega : B j ≠ 256)]
    refine T_isLetter_law (by omega) ?_
    cases e : pL (B j) with
    | false =>
      refine br_t rfl ?_
      have e : wEn B n j = j := rnE_stop (q := fun j => pL (bt B n j)) (by simp only [bt_lt hjn]; exact e)
      rw [e] at hk
      exact hk
    | true =>
      refine br_f (by decide) ?_
      rw [nI_1]
      refine ih f (j + 1) (by omega) (by omega) (by omega) ?_
      have e : wEn B n j = wEn B n (j + 1) := rnE_step (q := fun j => pL (bt B n j)) (by simp only [bt_lt hjn]; exact e) hjn
      rw [e] at hk
      exact hk
theorem wEn_ge (B : Byt) (n k : Nat) : k ≤ wEn B n k := rnE_ge _ _ _
theorem wEn_le {B : Byt} {n k : Nat} (h : k ≤ n) : wEn B n k ≤ n := rnE_le h
theorem wEn_gt {B : Byt} {n k : Nat} (h : pL (bt B n k) = true) : k < wEn B n k := by
  have : wEn B n k = wEn B n (k + 1) := rnE_step (q := fun j => pL (bt B n j)) h (pL_in h)
  have := wEn_ge B n (k + 1)
  omega
theorem wEn_last {B : Byt} {n k : Nat} (h : pL (bt B n k) = true) : pL (B (wEn B n k - 1)) = true := by
  have h1 := wEn_gt h
  have h2 := wEn_le (B := B) (n := n) (k := k) (Nat.le_of_lt (pL_in h))
  have := rnE_all (q := fun j => pL (bt B n j)) (n := n) _ k rfl (wEn B n k - 1) (by omega) (by show _ < wEn B n k; omega)
  simp only [bt_lt (show wEn B n k - 1 < n by omega)] at this
  exact this
theorem wd_len (B : Byt) (p q : Nat) : (wd B p q).length = q - p := by simp [wd]
theorem T_isHere_law {K : Int32 → Sto → Prop} (hT : TxT τ0 B n) (h : RQ τ0 B n τ k C W o bs) {id : Nat} {w : List Nat} (hp : (id, w) ∈ wTab) (hk : ∀ τ', RQ τ0 B n τ' (skp B n k) C W o bs → K (b1 (hereW B n k w)) τ') : T_isHere τ id K := by
  have hn := hT.1
  unfold T_isHere
  refine bn_f h.bad (T_look_law hT h fun τ1 h1 => ?_)
  refine T_isLetter_law (bt_le hT.2.2.2.1) ?_
  have hkk := hk τ1 h1
  have hkn := skp_le (B := B) h.kn
  have hen := h1.en.2
  rw [skp_idem] at hen
  cases e : pL (bt B n (skp B n k)) with
  | false =>
    refine br_t rfl ?_
    rw [show hereW B n k w = false by simp [hereW, okW, e]] at hkk
    exact hkk
  | true =>
    refine br_f (by decide) ?_
    rw [h1.at_]
    cases ea : pA B (skp B n k) with
    | true =>
      refine bn_f (hen.mpr ea).symm ?_
      rw [show hereW B n k w = false by simp [hereW, okW, ea]] at hkk
      exact hkk
    | false =>
      refine bn_t (fun z => by rw [hen.mp z.symm] at ea; cases ea) ⟨n - skp B n k + 1, ?_⟩
      refine T_isHere_35_law hT h1 id (n - skp B n k) _ _ rfl (by omega) hkn ?_
      unfold T_isHere_61
      rw [wTab_len hp]
      refine ⟨wTab_L _ hp, ?_⟩
      rw [h1.at_, nI_sub (wEn_ge B n _)]
      have hs := wTab_short _ hp
      have hle := wEn_le (B := B) hkn
      have hge := wEn_ge B n (skp B n k)
      have ho : okW B n (skp B n k) = true := by simp [okW, e, ea]
      by_cases el : wEn B n (skp B n k) - skp B n k = w.length
      · refine br_t (by rw [el]; rfl) ⟨w.length + 1, ?_⟩
        refine T_isHere_76_law hT h1 hp (by show _ + w.length ≤ n; omega) w.length _ 0 rfl (by omega) (by omega) (fun j hj => absurd hj (by omega)) ?_
        rw [show hereW B n k w = decide (wd B (skp B n k) (skp B n k + w.length) = w) by
          rw [← el, Nat.add_sub_cancel' hge]; simp [hereW, ho]] at hkk
        exact hkk
      · refine br_f (fun z => el ((nI_eq (by omega) (by dsimp only at hs; omega)).mp z)) ?_
        rw [show hereW B n k w = false by
          simp only [hereW, ho, Bool.true_and, decide_eq_false_iff_not]
          intro z; exact el (by rw [← z, wd_len])] at hkk
        exact hkk
end TL
