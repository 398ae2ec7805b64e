/-! PURE SIDE, the model's reader: facts and tests are read as the meaning says. -/
def DnT (tk : Nat) (c : List Int32) (t : TT) : Prop := DenT c t ∧ NoL tk c
theorem DenT.pos {c : List Int32} {v : TT} (h : DenT c v) : 0 < c.length := by
  cases c with
  | nil =>
    have := h ((fun _ => 0), (fun _ => 0)) []
    simp [runC] at this
  | cons x c => simp
theorem DnT.and {tk : Nat} {c c' : List Int32} {t u : TT} (h : DnT tk c t) (h' : DnT tk c' u) : DnT tk (c ++ c' ++ [10]) (fun e => t e && u e) := ⟨h.1.and h'.1, (h.2.app h'.2).app (NoL.one rfl)⟩
theorem DnT.or {tk : Nat} {c c' : List Int32} {t u : TT} (h : DnT tk c t) (h' : DnT tk c' u) : DnT tk (c ++ c' ++ [11]) (fun e => t e || u e) := ⟨h.1.or h'.1, (h.2.app h'.2).app (NoL.one rfl)⟩
section TF
variable {τ0 τ : Sto} {B : Byt} {n k o bs tk z0 : Nat} {C W : List Int32} {K : Sto → Prop} {F : Nat → Rs (TT × Nat)}
def FactOK (z0 : Nat) (τ0 : Sto) (B : Byt) (n bs : Nat) (K : Sto → Prop) (tk : Nat) (F : Nat → Rs (TT × Nat)) (o : Nat) : Prop := ∀ (k : Nat) (C W : List Int32), k ≤ n → (∀ x, x ∈ W → lgW x) → C.length + W.length + z0 ≤ k →
  (∀ t k', F k = .inr (t, k') → ∀ c, DnT tk c t → c.length + k ≤ k' → FoE τ0 B n bs K k' (C ++ c) W o) → (∀ kd pl, F k = .inl (kd, pl) → FFt z0 τ0 B n bs K kd pl) → FoP τ0 B n bs K k C W o
theorem pPas_some {w : List Nat} {q : Nat} (h : pPas B n k w = .inr (some q)) : hereW B n k w = true ∧ q = wEn B n (skp B n k) := by
  unfold pPas at h
  cases h1 : pL (bt B n (skp B n k)) with
  | false => rw [h1, if_neg (by decide)] at h; cases h
  | true =>
    rw [h1, if_pos rfl] at h
    cases h2 : pA B (skp B n k) with
    | true => rw [h2, if_pos rfl] at h; cases h
    | false =>
      rw [h2, if_neg (by decide)] at h
      by_cases h3 : wd B (skp B n k) (wEn B n (skp B n k)) = w
      · rw [if_pos h3] at h
        have := Option.some.inj (Sum.inr.inj h)
        exact ⟨by simp [hereW, okW, h1, h2, h3], this.symm⟩
      · rw [if_neg h3] at h; cases h
theorem pPas_err {w : List Nat} {kd pl : Nat} (h : pPas B n k w = .inl (kd, pl)) : kd = 1 ∧ pl = skp B n k ∧ okW B n (skp B n k) = false ∧ pL (bt B n (skp B n k)) = true := by
  unfold pPas at h
  cases h1 : pL (bt B n (skp B n k)) with
  | false => rw [h1, if_neg (by decide)] at h; cases h
  | true =>
    rw [h1, if_pos rfl] at h
    cases h2 : pA B (skp B n k) with
    | true =>
      rw [h2, if_pos rfl] at h
      obtain ⟨rfl, rfl⟩ := Prod.mk.inj (Sum.inl.inj h)
      exact ⟨rfl, rfl, by simp [okW, h2], rfl⟩
    | false =>
      rw [h2, if_neg (by decide)] at h
      by_cases h3 : wd B (skp B n k) (wEn B n (skp B n k)) = w
      · rw [if_pos h3] at h; cases h
      · rw [if_neg h3] at h; cases h
theorem pPas_none {w : List Nat} (h : pPas B n k w = .inr none) : hereW B n k w = false := by
  cases hh : hereW B n k w with
  | false => rfl
  | true =>
    simp only [hereW, okW, Bool.and_eq_true, decide_eq_true_eq] at hh
    unfold pPas at h
    rw [hh.1.1, if_pos rfl] at h
    have : pA B (skp B n k) = false := by simpa using hh.1.2
    rw [this, if_neg (by decide), if_pos hh.2] at h
    cases h
theorem okW_here {w : List Nat} (h : okW B n (skp B n k) = false) : hereW B n k w = false := by simp [hereW, h]
/-- a word begins where none can -/
theorem foG_doom (hT : TxT τ0 B n) {p : Nat} (hs : skp B n k = p) (hok : okW B n p = false) (hpl : pL (bt B n p) = true) (hz : C.length + W.length + z0 ≤ p) (hF : FFt z0 τ0 B n bs K 1 p) : FoG τ0 B n bs K k C W o := by
  have hpp : skp B n p = p := by rw [← hs, skp_idem]
  refine foG_end hT hs (okW_here (by rw [hs]; exact hok)) (okW_here (by rw [hs]; exact hok)) (by omega) (fun e => by rw [e] at hpl; exact absurd hpl (by decide)) (fun _ => hF) (fun _ τ' g' => hF.2 rfl hok hpl hpp τ' _ _ (by rw [List.length_append]; exact hz) g')
theorem both_loop (hT : TxT τ0 B n) (hF : FactOK z0 τ0 B n bs K tk F o) (hW : topN (fun x => x = 10) W) (hWl : ∀ x, x ∈ W → lgW x) :
    ∀ (f : Nat) (v : TT) (k k0 : Nat) (c pend : List Int32), skp B n k0 = skp B n k → n - skp B n k < f → (∀ y, y ∈ pend → y = 10) → pend.length ≤ 1 → DnT tk (c ++ pend) v → C.length + c.length + pend.length + W.length + z0 ≤ skp B n k →
    (∀ v' k', pBoL B n F f v k = .inr (v', k') → ∀ c' pend', (∀ y, y ∈ pend' → y = 10) → pend'.length ≤ 1 → DnT tk (c' ++ pend') v' → c'.length + pend'.length + skp B n k ≤ k' + c.length + pend.length → hereW B n k' andWd = false → ∀ k0, skp B n k0 = k' → FoG τ0 B n bs K k0 (C ++ c') (pend' ++ W) o) →
    (∀ kd pl, pBoL B n F f v k = .inl (kd, pl) → FFt z0 τ0 B n bs K kd pl) → FoG τ0 B n bs K k0 (C ++ c) (pend ++ W) o := by
  have hn := hT.1
  intro f
  induction f with
  | zero => intro v k k0 c pend hk0 hf; omega
  | succ f ih =>
    intro v k k0 c pend hk0 hf hp hpl hd hz hok her
    refine FoG.out fun hk0n => ?_
    have hsn : skp B n k ≤ n := by rw [← hk0]; exact skp_le hk0n
    cases hpas : pPas B n k andWd with
    | inl e =>
      obtain ⟨kd, pl⟩ := e
      obtain ⟨rfl, rfl, ho, hl⟩ := pPas_err hpas
      exact foG_doom hT hk0 ho hl (by simp only [List.length_append]; omega) (her 1 _ (by show rsB _ _ = _; rw [hpas]; rfl))
    | inr w =>
      cases w with
      | none =>
        have hun : pBoL B n F (f + 1) v k = .inr (v, skp B n k) := by show rsB _ _ = _; rw [hpas]; rfl
        exact hok v _ hun c pend hp hpl hd (by omega) (by rw [hereW_skp]; exact pPas_none hpas) k0 hk0
      | some q =>
        obtain ⟨hh, rfl⟩ := pPas_some hpas
        have hun : pBoL B n F (f + 1) v k = rsB (F (wEn B n (skp B n k))) (fun r => pBoL B n F f (fun e => v e && r.1 e) r.2) := by show rsB _ _ = _; rw [hpas]; rfl
        have hh' := hh
        simp only [hereW, Bool.and_eq_true] at hh'
        have hgt := wEn_gt (okW_pL hh'.1)
        have hwn := wEn_le (B := B) hsn
        refine foG_and hT hk0 (by rw [hereW_of hk0]; exact hh) hp hW (by simp only [List.length_append]; omega) ?_
        refine hF (wEn B n (skp B n k)) (C ++ c ++ pend) (10 :: W) hwn (fun x hx => ?_) (by simp only [List.length_append, List.length_cons]; omega) (fun t k' ea c2 hd2 hl2 => ?_) (fun kd pl ea => her kd pl (by rw [hun, ea]; rfl))
        · rcases List.mem_cons.mp hx with rfl | hx
          · exact Or.inl rfl
          · exact hWl x hx
        · have hpos := hd2.1.pos
          have hsk' := skp_ge B n k'
          refine FoE.out fun hk'n => foE_stop (by simp only [List.length_cons]; omega) (fun v W' e => by cases e; decide) ?_
          have := ih (fun e => v e && t e) k' k' (c ++ pend ++ c2) [10] rfl (by omega) (fun y hy => List.mem_singleton.mp hy) (by simp) (hd.and hd2) (by simp only [List.length_append, List.length_cons, List.length_nil]; omega)
            (fun v' k'' e' c' pend' a1 a2 a3 a4 a5 => hok v' k'' (by rw [hun, ea]; exact e') c' pend' a1 a2 a3 (by simp only [List.length_append, List.length_cons, List.length_nil] at a4; omega) a5)
            (fun kd pl e' => her kd pl (by rw [hun, ea]; exact e'))
          rw [← List.append_assoc, ← List.append_assoc] at this
          exact this
theorem both_law (hT : TxT τ0 B n) (hF : FactOK z0 τ0 B n bs K tk F o) (hW : topN (fun x => x = 10) W) (hW12 : topN (fun x => x = 12) W) (hWl : ∀ x, x ∈ W → lgW x) (hkn : k ≤ n) (hz : C.length + W.length + z0 ≤ k)
    (hok : ∀ v' k', pBot B n F k = .inr (v', k') → ∀ c' pend', (∀ y, y ∈ pend' → y = 10) → pend'.length ≤ 1 → DnT tk (c' ++ pend') v' → c'.length + pend'.length + k ≤ k' → hereW B n k' andWd = false → ∀ k0, skp B n k0 = k' → FoG τ0 B n bs K k0 (C ++ c') (pend' ++ W) o)
    (her : ∀ kd pl, pBot B n F k = .inl (kd, pl) → FFt z0 τ0 B n bs K kd pl) : FoP τ0 B n bs K k C W o := by
  have hn := hT.1
  refine hF k C W hkn hWl hz (fun v k' ea c hd hl => ?_) (fun kd pl ea => her kd pl (by unfold pBot; rw [ea]; rfl))
  have hun : pBot B n F k = pBoL B n F (n - k' + 1) v k' := by unfold pBot; rw [ea]; rfl
  have hsk' := skp_ge B n k'
  refine FoE.out fun hk'n => foE_stop (by omega) hW12 ?_
  have := both_loop (C := C) hT hF hW hWl (n - k' + 1) v k' k' c [] rfl (by omega) (fun y hy => by cases hy) (by simp) (by rw [List.append_nil]; exact hd) (by simp only [List.length_nil]; omega)
    (fun v' k'' e' c' pend' a1 a2 a3 a4 a5 => hok v' k'' (by rw [hun]; exact e') c' pend' a1 a2 a3 (by simp only [List.length_nil] at a4; omega) a5)
    (fun kd pl e' => her kd pl (by rw [hun]; exact e'))
  rw [List.nil_append] at this
  exact this
theorem test_loop (hT : TxT τ0 B n) (hF : FactOK z0 τ0 B n bs K tk F o) (hW : topN lgI W) (hWl : ∀ x, x ∈ W → lgW x) :
    ∀ (f : Nat) (v : TT) (k k0 : Nat) (c pend : List Int32), skp B n k0 = skp B n k → n - skp B n k < f → (∀ y, y ∈ pend → lgI y) → pend.length ≤ 2 → DnT tk (c ++ pend) v → C.length + c.length + pend.length + W.length + z0 ≤ skp B n k → hereW B n k andWd = false →
    (∀ v' k', pTeL B n F f v k = .inr (v', k') → ∀ c' pend', (∀ y, y ∈ pend' → lgI y) → pend'.length ≤ 2 → DnT tk (c' ++ pend') v' → c'.length + pend'.length + skp B n k ≤ k' + c.length + pend.length → hereW B n k' andWd = false → hereW B n k' orWd = false → ∀ k0, skp B n k0 = k' → FoG τ0 B n bs K k0 (C ++ c') (pend' ++ W) o) →
    (∀ kd pl, pTeL B n F f v k = .inl (kd, pl) → FFt z0 τ0 B n bs K kd pl) → FoG τ0 B n bs K k0 (C ++ c) (pend ++ W) o := by
  have hn := hT.1
  intro f
  induction f with
  | zero => intro v k k0 c pend hk0 hf; omega
  | succ f ih =>
    intro v k k0 c pend hk0 hf hp hpl hd hz hna hok her
    refine FoG.out fun hk0n => ?_
    have hsn : skp B n k ≤ n := by rw [← hk0]; exact skp_le hk0n
    cases hpas : pPas B n k orWd with
    | inl e =>
      obtain ⟨kd, pl⟩ := e
      obtain ⟨rfl, rfl, ho, hl⟩ := pPas_err hpas
      exact foG_doom hT hk0 ho hl (by simp only [List.length_append]; omega) (her 1 _ (by show rsB _ _ = _; rw [hpas]; rfl))
    | inr w =>
      cases w with
      | none =>
        have hun : pTeL B n F (f + 1) v k = .inr (v, skp B n k) := by show rsB _ _ = _; rw [hpas]; rfl
        exact hok v _ hun c pend hp hpl hd (by omega) (by rw [hereW_skp]; exact hna) (by rw [hereW_skp]; exact pPas_none hpas) k0 hk0
      | some q =>
        obtain ⟨hh, rfl⟩ := pPas_some hpas
        have hun : pTeL B n F (f + 1) v k = rsB (pBot B n F (wEn B n (skp B n k))) (fun r => pTeL B n F f (fun e => v e || r.1 e) r.2) := by show rsB _ _ = _; rw [hpas]; rfl
        have hh' := hh
        simp only [hereW, Bool.and_eq_true] at hh'
        have hgt := wEn_gt (okW_pL hh'.1)
        have hwn := wEn_le (B := B) hsn
        refine foG_or hT hk0 (by rw [hereW_of hk0]; exact hh) hp hW (by simp only [List.length_append]; omega) ?_
        refine both_law (k := wEn B n (skp B n k)) (C := C ++ c ++ pend) (W := 11 :: W) hT hF (fun v W' e => by cases e; decide) (fun v W' e => by cases e; decide) (fun x hx => ?_) hwn (by simp only [List.length_append, List.length_cons]; omega) (fun t k' ea c2 pend2 b1' b2' hd2 hl2 hna2 k1 hk1 => ?_) (fun kd pl ea => her kd pl (by rw [hun, ea]; rfl))
        · rcases List.mem_cons.mp hx with rfl | hx
          · exact Or.inr (Or.inl rfl)
          · exact hWl x hx
        · have hpos := hd2.1.pos
          rw [List.length_append] at hpos
          have hkk : skp B n k' = k' := by rw [← hk1, skp_idem]
          have hd3 : DnT tk ((c ++ pend ++ c2) ++ (pend2 ++ [11])) (fun e => v e || t e) := by
            have e : (c ++ pend ++ c2) ++ (pend2 ++ [(11 : Int32)]) = c ++ pend ++ (c2 ++ pend2) ++ [11] := by simp only [List.append_assoc]
            rw [e]; exact hd.or hd2
          have := ih (fun e => v e || t e) k' k1 (c ++ pend ++ c2) (pend2 ++ [11]) (by rw [hk1, hkk]) (by omega)
            (fun y hy => by
              rcases List.mem_append.mp hy with hy | hy
              · exact Or.inl (b1' y hy)
              · exact Or.inr (List.mem_singleton.mp hy)) (by simp only [List.length_append, List.length_cons, List.length_nil]; omega) hd3 (by simp only [List.length_append, List.length_cons, List.length_nil]; omega) hna2
            (fun v' k'' e' c' pend' a1 a2 a3 a4 a5 => hok v' k'' (by rw [hun, ea]; exact e') c' pend' a1 a2 a3 (by simp only [List.length_append, List.length_cons, List.length_nil] at a4; omega) a5)
            (fun kd pl e' => her kd pl (by rw [hun, ea]; exact e'))
          have e2 : C ++ (c ++ pend ++ c2) = C ++ c ++ pend ++ c2 := by simp only [List.append_assoc]
          have e3 : (pend2 ++ [(11 : Int32)]) ++ W = pend2 ++ 11 :: W := by simp only [List.append_assoc, List.singleton_append]
          rw [e2, e3] at this
          exact this
theorem test_law (hT : TxT τ0 B n) (hF : FactOK z0 τ0 B n bs K tk F o) (hW : topN lgI W) (hW12 : topN (fun x => x = 12) W) (hWl : ∀ x, x ∈ W → lgW x) (hkn : k ≤ n) (hz : C.length + W.length + z0 ≤ k)
    (hok : ∀ v' k', pTes B n F k = .inr (v', k') → ∀ c' pend', (∀ y, y ∈ pend' → lgI y) → pend'.length ≤ 2 → DnT tk (c' ++ pend') v' → c'.length + pend'.length + k ≤ k' → hereW B n k' andWd = false → hereW B n k' orWd = false → ∀ k0, skp B n k0 = k' → FoG τ0 B n bs K k0 (C ++ c') (pend' ++ W) o)
    (her : ∀ kd pl, pTes B n F k = .inl (kd, pl) → FFt z0 τ0 B n bs K kd pl) : FoP τ0 B n bs K k C W o := by
  have hn := hT.1
  refine both_law hT hF (fun v W' e z => hW v W' e (Or.inl z)) hW12 hWl hkn hz (fun v k' ea c pend b1' b2' hd hl hna k0 hk0 => ?_) (fun kd pl ea => her kd pl (by unfold pTes; rw [ea]; rfl))
  have hun : pTes B n F k = pTeL B n F (n - k' + 1) v k' := by unfold pTes; rw [ea]; rfl
  have hkk : skp B n k' = k' := by rw [← hk0, skp_idem]
  exact test_loop (C := C) hT hF hW hWl (n - k' + 1) v k' k0 c pend (by rw [hk0, hkk]) (by rw [hkk]; omega) (fun y hy => Or.inl (b1' y hy)) (by omega) hd (by rw [hkk]; omega) hna
    (fun v' k'' e' c' pend' a1 a2 a3 a4 a5 => hok v' k'' (by rw [hun]; exact e') c' pend' a1 a2 a3 (by rw [hkk] at a4; omega) a5)
    (fun kd pl e' => her kd pl (by rw [hun]; exact e'))
theorem pSum_doom {m : Nat} (h1 : okW B n (skp B n k) = false) (h2 : pL (bt B n (skp B n k)) = true) (hm : 0 < m) : pSum B n (pAtm B n tk m o) k = .inl (1, skp B n k) := by
  obtain ⟨m, rfl⟩ : ∃ m', m = m' + 1 := ⟨m - 1, by omega⟩
  have e : pAtm B n tk (m + 1) o k = .inl (1, skp B n k) := by
    show (if _ then _ else _) = _
    rw [if_neg (pL_not40 h2).1, if_neg (by rw [(pL_not40 h2).2]; decide)]
    unfold pWord
    rw [if_neg (by rw [h1]; decide)]
    rfl
  unfold pSum pPro
  rw [e]
  rfl
theorem fact_law (hT : TxT τ0 B n) (ht : tk < 4) (h50 : τ0.1 0 50 = nI tk) : ∀ (m o : Nat), o ≤ 6 → 8 - o ≤ m → FactOK z0 τ0 B n bs K tk (pFac B n tk m o) o := by
  have hn := hT.1
  intro m
  induction m with
  | zero => intro o h1 h2; omega
  | succ m ih =>
    intro o ho hm k C W hkn hWl hz hok her f τ hf h
    obtain ⟨f, rfl⟩ : ∃ f', f = f' + 1 := ⟨f - 1, by omega⟩
    have hsk := skp_ge B n k
    have hsl := skp_le (B := B) hkn
    have hwl : W.length < 1700 := by omega
    have hWop : topN opI W := fun v W' e => (hWl v (by rw [e]; simp)).op
    -- a fact has ended
    have fin : ∀ (q : Nat) (C' : List Int32) (τ' : Sto), k < q → FoE τ0 B n bs K q C' W o → RQ τ0 B n τ' q C' W o bs → T_qDropsNots τ' (PKt K f) := by
      intro q C' τ' hq hE g'
      have := g'.kn
      exact hE f _ τ' (by omega) (fun τ'' C'' W'' o'' g'' hG => bn_f g''.bad ⟨n - q + 1, hG _ (by omega)⟩) g'
    unfold T_qTest_2
    refine br_f (by decide) (bn_f h.bad (T_look_law hT h fun τ1 g1 => ?_))
    rw [show (91 : Int32) = nI 91 from rfl, cI_eq (bt_le hT.2.2.2.1) (by omega)]
    by_cases e91 : bt B n (skp B n k) = 91
    · -- a square bracket
      have hin : skp B n k < n := bt_in e91 (by omega)
      have hB : B (skp B n k) = 91 := by rw [← e91, bt_lt hin]
      have hun : pFac B n tk (m + 1) o k = if o = 6 then .inl (4, skp B n k) else rsB (pTes B n (pFac B n tk m (o + 1)) (skp B n k + 1)) (fun r => rsB (pMust B n r.2 93) (fun k' => .inr (r.1, k'))) := by
        show (if _ then _ else _) = _
        rw [if_pos e91]
      refine bn_f e91 (T_qOpens_law g1 hwl ho g1.at_ (fun h6 τ2 g2 => st_ ?_) (fun h6 τ2 g2 => st_ (test_bad (her 4 _ (by rw [hun, if_pos h6])) ((g2.mono (by omega)).w (by simp)) (by omega) 1)))
      rw [if_neg h6] at hun
      rw [g2.at_, nI_1]
      have g3 := g2.go (E' := EnO B n (skp B n k + 1)) (k' := skp B n k + 1) (by omega) (g2.en.sign hn hin (by rw [hB]; decide) (by rw [hB]; decide))
      refine test_law (k := skp B n k + 1) (C := C) (W := 25 :: W) (o := o + 1) hT (ih (o + 1) (by omega) (by omega)) (fun v W' e => by cases e; simp [lgI]) (fun v W' e => by cases e; decide) (fun x hx => ?_) (by omega) (by simp only [List.length_cons]; omega) (fun t k' ea c pend a1 a2 hd hl hna hno k0 hk0 => ?_) (fun kd pl ea => her kd pl (by rw [hun, ea]; rfl)) f _ (by omega) g3
      · rcases List.mem_cons.mp hx with rfl | hx
        · exact Or.inr (Or.inr (Or.inr rfl))
        · exact hWl x hx
      · refine FoG.out fun hk0n => ?_
        have hk'n : k' ≤ n := by rw [← hk0]; exact skp_le hk0n
        have hkk : skp B n k' = k' := by rw [← hk0, skp_idem]
        have hz' : (C ++ c).length + (pend ++ 25 :: W).length ≤ k' := by simp only [List.length_append, List.length_cons]; omega
        have hun2 : pFac B n tk (m + 1) o k = rsB (pMust B n k' 93) (fun k' => .inr (t, k')) := by rw [hun, ea]; rfl
        rw [pMust_skp hkk] at hun2
        by_cases e93 : bt B n k' = 93
        · refine foG_close hT hk0 e93 a1 hz' ?_
          rw [if_pos e93] at hun2
          have := hok t (k' + 1) hun2 (c ++ pend) hd (by simp only [List.length_append]; omega)
          rw [List.append_assoc]
          exact this
        · rw [if_neg e93] at hun2
          exact foG_end hT hk0 (by rw [hereW_of (k := k') (by rw [hk0, hkk])]; exact hna) (by rw [hereW_of (k := k') (by rw [hk0, hkk])]; exact hno) hz' (fun e => absurd e e93) (fun _ => her 1 k' hun2) (fun z => absurd (by simp) z)
    · refine bn_t e91 ?_
      have hun0 : pFac B n tk (m + 1) o k = rsB (pPas B n k notWd) (fun w => match w with
          | some q => if o = 6 then .inl (4, skp B n k) else rsB (pFac B n tk m (o + 1) q) (fun r => .inr ((fun e => !(r.1 e)), r.2))
          | none => rsB (pPas B n k allWd) (fun w => match w with
            | some q => .inr ((fun _ => true), q)
            | none => rsB (pSum B n (pAtm B n tk m o) k) (fun r =>
              if bt B n (skp B n r.2) = 60 ∨ bt B n (skp B n r.2) = 62 ∨ bt B n (skp B n r.2) = 61 then
                rsB (pSum B n (pAtm B n tk m o) (skp B n r.2 + 1)) (fun r2 => .inr ((fun e => cmpL (bt B n (skp B n r.2)) (r.1 e) (r2.1 e)), r2.2))
              else .inl (1, skp B n r.2)))) := by
        show (if _ then _ else _) = _
        rw [if_neg e91]
        rfl
      refine T_isHere_st (k := k) hT g1 (skp_idem B n k) (id := 75) (w := notWd) (by decide) (fun enot τ2 g2 => ?_) (fun enot τ2 g2 => ?_)
      · -- 'not'
        have how : okW B n (skp B n k) = true := by simp only [hereW, Bool.and_eq_true] at enot; exact enot.1
        have hpl := okW_pL how
        have hgt := wEn_gt hpl
        have hwn := wEn_le (B := B) hsl
        have hpas : pPas B n k notWd = .inr (some (wEn B n (skp B n k))) := by
          cases hp : pPas B n k notWd with
          | inl e =>
            obtain ⟨kd, pl⟩ := e
            have := (pPas_err hp).2.2.1
            rw [how] at this; cases this
          | inr w =>
            cases w with
            | none => rw [pPas_none hp] at enot; cases enot
            | some q => rw [(pPas_some hp).2]
        have hun : pFac B n tk (m + 1) o k = if o = 6 then .inl (4, skp B n k) else rsB (pFac B n tk m (o + 1) (wEn B n (skp B n k))) (fun r => .inr ((fun e => !(r.1 e)), r.2)) := by rw [hun0, hpas]; rfl
        refine br_f (by decide) (T_qOpens_law g2 hwl ho g2.at_ (fun h6 τ3 g3 => ?_) (fun h6 τ3 g3 => ?_))
        · rw [if_neg h6] at hun
          have hhn : hereW B n (skp B n k) notWd = true := by rw [hereW_skp]; exact enot
          refine T_asks_law hT g3 (w := notWd) (by decide) (fun q e τ4 g4 => ?_) (fun kd pl e => by simp only [pWd, hhn, if_true] at e; cases e)
          simp only [pWd, hhn, if_true] at e
          have e := Sum.inr.inj e
          rw [skp_idem] at e
          subst e
          refine ih (o + 1) (by omega) (by omega) (wEn B n (skp B n k)) C (12 :: W) hwn (fun x hx => ?_) (by simp only [List.length_cons]; omega) (fun t k' ea c hd hl => ?_) (fun kd pl ea => her kd pl (by rw [hun, ea]; rfl)) f τ4 (by omega) g4
          · rcases List.mem_cons.mp hx with rfl | hx
            · exact Or.inr (Or.inr (Or.inl rfl))
            · exact hWl x hx
          · refine FoE.out fun hk'n => foE_not hwl (by simp only [List.length_append]; omega) ?_
            rw [List.append_assoc]
            exact hok _ k' (by rw [hun, ea]; rfl) (c ++ [12]) ⟨hd.1.not, hd.2.app (NoL.one rfl)⟩ (by simp only [List.length_append, List.length_cons, List.length_nil]; omega)
        · exact T_asks_bad g3.bad (test_bad (her 4 _ (by rw [hun, if_pos h6])) (g3.mono (by omega)) (by omega) 1)
      · refine br_t rfl ?_
        unfold T_qFact
        refine T_eats_law hT g2 (w := allWd) (by decide) (fun eall τ3 g3 => ?_) (fun eall τ3 g3 => ?_)
        · -- 'all'
          rw [hereW_skp] at eall
          rw [skp_idem] at g3
          have how : okW B n (skp B n k) = true := by simp only [hereW, Bool.and_eq_true] at eall; exact eall.1
          have hgt := wEn_gt (okW_pL how)
          have hp1 : pPas B n k notWd = .inr none := by
            cases hp : pPas B n k notWd with
            | inl e =>
              obtain ⟨kd, pl⟩ := e
              have := (pPas_err hp).2.2.1
              rw [how] at this; cases this
            | inr w =>
              cases w with
              | none => rfl
              | some q => rw [(pPas_some hp).1] at enot; cases enot
          have hp2 : pPas B n k allWd = .inr (some (wEn B n (skp B n k))) := by
            cases hp : pPas B n k allWd with
            | inl e =>
              obtain ⟨kd, pl⟩ := e
              have := (pPas_err hp).2.2.1
              rw [how] at this; cases this
            | inr w =>
              cases w with
              | none => rw [pPas_none hp] at eall; cases eall
              | some q => rw [(pPas_some hp).2]
          have hle := g3.kn
          refine br_f (by decide) (T_qCode_law g3 (by omega) 13 fun τ4 g4 => fin _ _ τ4 (by omega) (hok _ _ (by rw [hun0, hp1]; show rsB (pPas B n k allWd) _ = _; rw [hp2]; rfl) [13] ⟨DenT.all, NoL.one rfl⟩ (by simp only [List.length_cons, List.length_nil]; omega)) g4)
        · -- two sums
          rw [hereW_skp] at eall
          rw [skp_idem] at g3
          have hun : (okW B n (skp B n k) = false ∧ pL (bt B n (skp B n k)) = true ∧ pFac B n tk (m + 1) o k = .inl (1, skp B n k)) ∨ pFac B n tk (m + 1) o k = rsB (pSum B n (pAtm B n tk m o) k) (fun r =>
              if bt B n (skp B n r.2) = 60 ∨ bt B n (skp B n r.2) = 62 ∨ bt B n (skp B n r.2) = 61 then
                rsB (pSum B n (pAtm B n tk m o) (skp B n r.2 + 1)) (fun r2 => .inr ((fun e => cmpL (bt B n (skp B n r.2)) (r.1 e) (r2.1 e)), r2.2))
              else .inl (1, skp B n r.2)) := by
            cases hp : pPas B n k notWd with
            | inl e =>
              obtain ⟨kd, pl⟩ := e
              obtain ⟨rfl, rfl, q3, q4⟩ := pPas_err hp
              exact Or.inl ⟨q3, q4, by rw [hun0, hp]; rfl⟩
            | inr w =>
              cases w with
              | some q => rw [(pPas_some hp).1] at enot; cases enot
              | none =>
                cases hp2 : pPas B n k allWd with
                | inl e =>
                  obtain ⟨kd, pl⟩ := e
                  obtain ⟨rfl, rfl, q3, q4⟩ := pPas_err hp2
                  exact Or.inl ⟨q3, q4, by rw [hun0, hp]; show rsB (pPas B n k allWd) _ = _; rw [hp2]; rfl⟩
                | inr w =>
                  cases w with
                  | some q => rw [(pPas_some hp2).1] at eall; cases eall
                  | none => exact Or.inr (by rw [hun0, hp]; show rsB (pPas B n k allWd) _ = _; rw [hp2]; rfl)
          have hsum : pSum B n (pAtm B n tk m o) (skp B n k) = pSum B n (pAtm B n tk m o) k := by
            have ea : pAtm B n tk m o (skp B n k) = pAtm B n tk m o k := by
              cases m with
              | zero => rfl
              | succ m =>
                show (if bt B n (skp B n (skp B n k)) = 40 then pWit B n (pAtm B n tk m) 0 o (skp B n k) else if pD (bt B n (skp B n (skp B n k))) then rsB (pNum B n (skp B n k) 0 9999) _ else rsB (pWord B n (skp B n k)) _) = (if bt B n (skp B n k) = 40 then pWit B n (pAtm B n tk m) 0 o k else if pD (bt B n (skp B n k)) then rsB (pNum B n k 0 9999) _ else rsB (pWord B n k) _)
                rw [skp_idem, show pWit B n (pAtm B n tk m) 0 o (skp B n k) = pWit B n (pAtm B n tk m) 0 o k by unfold pWit; rw [skp_idem], show pNum B n (skp B n k) 0 9999 = pNum B n k 0 9999 by unfold pNum; rw [skp_idem], show pWord B n (skp B n k) = pWord B n k by unfold pWord; rw [skp_idem]]
            unfold pSum pPro
            rw [ea]
          have hun' : ∀ kd pl, pSum B n (pAtm B n tk m o) k = .inl (kd, pl) → pFac B n tk (m + 1) o k = .inl (kd, pl) := by
            intro kd pl e
            rcases hun with ⟨q1, q2, q3⟩ | hun
            · rw [pSum_doom q1 q2 (by omega)] at e
              rw [q3, Sum.inl.inj e]
            · rw [hun, e]; rfl
          refine br_t rfl (T_qSums_law (m := m) (k := skp B n k) hT ht h50 g3 ho (by omega) (by omega) hWop (fun v k1 e1 c1 hd1 hl1 τ4 g4 => ?_) (fun kd pl e1 τ4 g4 => ?_))
          · rw [hsum] at e1
            have hun2 : pFac B n tk (m + 1) o k = if bt B n (skp B n k1) = 60 ∨ bt B n (skp B n k1) = 62 ∨ bt B n (skp B n k1) = 61 then
                rsB (pSum B n (pAtm B n tk m o) (skp B n k1 + 1)) (fun r2 => .inr ((fun e => cmpL (bt B n (skp B n k1)) (v e) (r2.1 e)), r2.2))
              else .inl (1, skp B n k1) := by
              rcases hun with ⟨q1, q2, q3⟩ | hun
              · rw [pSum_doom q1 q2 (by omega)] at e1; cases e1
              · rw [hun, e1]; rfl
            have hpos1 := hd1.1.pos
            have hk1n := g4.kn
            have hsk1 := skp_ge B n k1
            refine br_t g4.bad (T_look_law hT g4 fun τ5 g5 => ?_)
            have hsn1 := g5.kn
            rw [show (60 : Int32) = nI 60 from rfl, show (62 : Int32) = nI 62 from rfl, show (61 : Int32) = nI 61 from rfl, cI_eq (bt_le hT.2.2.2.1) (by omega), cI_eq (bt_le hT.2.2.2.1) (by omega), cI_eq (bt_le hT.2.2.2.1) (by omega)]
            have go : ∀ s, bt B n (skp B n k1) = s → (s = 60 ∨ s = 62 ∨ s = 61) → T_qFact_63 (fun τ6 => T_qDropsNots τ6 (fun τ7 => PKt K f τ7)) (cI (bt B n (skp B n k1))) τ5 := by
              intro s hs hs3
              have hin1 : skp B n k1 < n := bt_in hs (by omega)
              have hB1 : B (skp B n k1) = s := by rw [← hs, bt_lt hin1]
              rw [hs, if_pos hs3] at hun2
              refine st_ ?_
              rw [g5.at_, nI_1, hs]
              have g6 := g5.go (E' := EnO B n (skp B n k1 + 1)) (k' := skp B n k1 + 1) (by omega) (g5.en.sign hn hin1 (by rw [hB1]; rcases hs3 with rfl | rfl | rfl <;> decide) (by rw [hB1]; rcases hs3 with rfl | rfl | rfl <;> decide))
              refine T_qSums_law (m := m) (k := skp B n k1 + 1) (C := C ++ c1) hT ht h50 g6 ho (by omega) (by simp only [List.length_append]; omega) hWop (fun w k2 e2 c2 hd2 hl2 τ7 g7 => ?_) (fun kd pl e2 τ7 g7 => ?_)
              · have hpos2 := hd2.1.pos
                have hk2n := g7.kn
                have hE := hok _ k2 (by rw [hun2, e2]; rfl) (c1 ++ c2 ++ [cmpC s]) ⟨DenT.cmp hs3 hd1.1 hd2.1, (hd1.2.app hd2.2).app (NoL.one (by rcases hs3 with rfl | rfl | rfl <;> rfl))⟩ (by simp only [List.length_append, List.length_cons, List.length_nil]; omega)
                have fin2 : T_qCode τ7 (cmpC s) (fun τ3 => T_qDropsNots τ3 (fun τ7 => PKt K f τ7)) := by
                  refine T_qCode_law g7 (by simp only [List.length_append]; omega) _ fun τ8 g8 => fin k2 _ τ8 (by omega) hE ?_
                  rw [show C ++ (c1 ++ c2 ++ [cmpC s]) = C ++ c1 ++ c2 ++ [cmpC s] by simp only [List.append_assoc]]
                  exact g8
                rcases hs3 with rfl | rfl | rfl
                · exact bn_f rfl fin2
                · exact bn_t (by decide) (bn_f rfl fin2)
                · exact bn_t (by decide) (bn_t (by decide) fin2)
              · have hE := her kd pl (by rw [hun2, e2]; rfl)
                have fin2 : ∀ x, T_qCode τ7 x (fun τ3 => T_qDropsNots τ3 (fun τ7 => PKt K f τ7)) := fun x => T_qCode_bad g7 (by omega) fun τ8 g8 => T_qDropsNots_bad g8.bad (PKt_bad hE g8 (by omega))
                exact ⟨fun _ => ⟨fun _ => fin2 9, fun _ => fin2 8⟩, fun _ => fin2 7⟩
            by_cases e60 : bt B n (skp B n k1) = 60
            · exact br_t e60 (go 60 e60 (by omega))
            · refine br_f e60 ?_
              by_cases e62 : bt B n (skp B n k1) = 62
              · exact br_t e62 (go 62 e62 (by omega))
              · refine br_f e62 ?_
                by_cases e61 : bt B n (skp B n k1) = 61
                · exact br_t e61 (go 61 e61 (by omega))
                · refine br_f e61 (T_fail_law g5 (kd := 1) rfl g5.at_ (by omega) (by omega) fun τ6 g6 => T_qDropsNots_bad g6.bad (PKt_bad (her 1 _ (by rw [hun2, if_neg (by omega)])) (g6.mono (by simp only [List.length_append]; omega)) (by omega)))
          · rw [hsum] at e1
            exact br_f g4.bad (T_qDropsNots_bad g4.bad (PKt_bad (her kd pl (hun' kd pl e1)) (g4.mono (by omega)) (by omega)))
/-- a test is told -/
theorem T_qTest_law {m : Nat} (hT : TxT τ0 B n) (ht : tk < 4) (h50 : τ0.1 0 50 = nI tk) (h : RQ τ0 B n τ k C [] o bs) (ho : o ≤ 6) (hm : 8 - o ≤ m) (hz : C.length + z0 ≤ k)
    (hok : ∀ v k', pTes B n (pFac B n tk m o) k = .inr (v, k') → ∀ c, DnT tk c v → c.length + k ≤ k' → ∀ τ', RQ τ0 B n τ' k' (C ++ c) [] o bs → K τ')
    (her : ∀ kd pl, pTes B n (pFac B n tk m o) k = .inl (kd, pl) → FFt z0 τ0 B n bs K kd pl) : T_qTest τ K := by
  have hn := hT.1
  have hkn := h.kn
  refine ⟨n - k + 2, ?_⟩
  refine test_law (W := []) (K := K) hT (fact_law hT ht h50 m o ho hm) (fun v W' e => by cases e) (fun v W' e => by cases e) (fun x hx => by cases hx) hkn (by simp only [List.length_nil]; omega) (fun v k' e c p a1 a2 d l na no k0 hk0 => ?_) (fun kd pl e => her kd pl e) _ _ (by omega) h
  refine FoG.out fun hk0n => ?_
  have hk'n : k' ≤ n := by rw [← hk0]; exact skp_le hk0n
  have hkk : skp B n k' = k' := by rw [← hk0, skp_idem]
  have hp : ∀ (p : List Int32), (∀ y, y ∈ p → lgI y) → ¬ (25 : Int32) ∈ p ++ [] := by
    intro p hp hq
    rw [List.append_nil] at hq
    rcases hp 25 hq with h | h <;> exact absurd h (by decide)
  refine foG_end (z0 := z0) hT hk0 (by rw [hereW_of (k := k') (by rw [hk0, hkk])]; exact na) (by rw [hereW_of (k := k') (by rw [hk0, hkk])]; exact no) (by simp only [List.length_append, List.length_nil]; omega) (fun _ => hp p a1) (fun z => absurd z (hp p a1)) (fun _ τ' g' => hok v k' e (c ++ p) d (by simp only [List.length_append]; omega) τ' ?_)
  rw [List.append_nil, List.append_assoc] at g'
  exact g'
end TF
