/-! PURE SIDE, the model's reader: tests, step by step. -/
def GKt (K : Sto → Prop) (f : Nat) : Int32 → Sto → Prop := fun r9 τ8 => ((r9 = 0 → (T_qTest_2 K f 0 τ8)) ∧ (¬ r9 = 0 → (T_qTest_2 K f 1 τ8)))
def PKt (K : Sto → Prop) (f : Nat) : Sto → Prop := fun τ7 => ((¬ (τ7.1 0 5) = 0 → (T_qTest_2 K f 0 τ7)) ∧ ((τ7.1 0 5) = 0 → (T_qGoesOnTest τ7 (GKt K f))))
def FoG (τ0 : Sto) (B : Byt) (n bs : Nat) (K : Sto → Prop) (k : Nat) (C W : List Int32) (o : Nat) : Prop := ∀ (f h : Nat) (τ : Sto), n - k < f → n - k < h → RQ τ0 B n τ k C W o bs → T_qGoesOnTest_0 (GKt K f) h τ
def FoE (τ0 : Sto) (B : Byt) (n bs : Nat) (K : Sto → Prop) (k : Nat) (C W : List Int32) (o : Nat) : Prop := ∀ (f : Nat) (KK : Sto → Prop) (τ : Sto), n - k < f → (∀ (τ' : Sto) (C' W' : List Int32) (o' : Nat), RQ τ0 B n τ' k C' W' o' bs → (∀ h, n - k < h → T_qGoesOnTest_0 (GKt K f) h τ') → KK τ') → RQ τ0 B n τ k C W o bs → T_qDropsNots τ KK
def FoP (τ0 : Sto) (B : Byt) (n bs : Nat) (K : Sto → Prop) (k : Nat) (C W : List Int32) (o : Nat) : Prop := ∀ (f : Nat) (τ : Sto), n - k + 1 < f → RQ τ0 B n τ k C W o bs → T_qTest_2 K f 1 τ
/-- a fault; or a word begins just behind a letter or digit, where none can, and no bracket is open: what comes behind the test will find it -/
def FFt (z0 : Nat) (τ0 : Sto) (B : Byt) (n bs : Nat) (K : Sto → Prop) (kd pl : Nat) : Prop := (∀ τ', RFc 1602 τ0 τ' kd pl → K τ') ∧ (kd = 1 → okW B n pl = false → pL (bt B n pl) = true → skp B n pl = pl → ∀ τ' C' o', C'.length + z0 ≤ pl → RQ τ0 B n τ' pl C' [] o' bs → K τ')
def lgI (x : Int32) : Prop := x = 10 ∨ x = 11
def lgW (x : Int32) : Prop := x = 10 ∨ x = 11 ∨ x = 12 ∨ x = 25
theorem lgW.op {x : Int32} (h : lgW x) : ¬ opI x := by
  rcases h with rfl | rfl | rfl | rfl <;> simp [opI]
section TT1
variable {τ0 τ : Sto} {B : Byt} {n k o bs z0 : Nat} {C W : List Int32} {K : Sto → Prop}
theorem test_bad {f kd pl : Nat} (hF : FFt z0 τ0 B n bs K kd pl) (h : RFc 1602 τ0 τ kd pl) (hf : 0 < f) (x : Int32) : T_qTest_2 K f x τ := by
  obtain ⟨f, rfl⟩ : ∃ f', f = f' + 1 := ⟨f - 1, by omega⟩
  have h1 : ∃ m, T_qTest_110 K m τ := ⟨1, by unfold T_qTest_110; exact bn_t h.bad (hF.1 _ h)⟩
  unfold T_qTest_2
  exact ⟨fun _ => h1, fun _ => bn_t h.bad h1⟩
theorem PKt_bad {f kd pl : Nat} (hF : FFt z0 τ0 B n bs K kd pl) (h : RFc 1602 τ0 τ kd pl) (hf : 0 < f) : PKt K f τ := bn_t h.bad (test_bad hF h hf 0)
theorem GKt_bad {f kd pl : Nat} (hF : FFt z0 τ0 B n bs K kd pl) (h : RFc 1602 τ0 τ kd pl) (hf : 0 < f) (r : Int32) : GKt K f r τ := ⟨fun _ => test_bad hF h hf 0, fun _ => test_bad hF h hf 1⟩
theorem T_qDropsNots_bad {K : Sto → Prop} (h : ¬ τ.1 0 5 = 0) (hk : K τ) : T_qDropsNots τ K := ⟨1, by unfold T_qDropsNots_0; exact bn_t h hk⟩
theorem T_qDropsNots_stop {K : Sto → Prop} (h : RQ τ0 B n τ k C W o bs) (hw : W.length < 1700) (hs : topN (fun x => x = 12) W) (hk : K τ) : T_qDropsNots τ K := by
  refine ⟨1, ?_⟩
  unfold T_qDropsNots_0
  refine bn_f h.bad ?_
  match W, h, hs, hw with
  | [], h, _, _ => exact T_qIsOn_nil h (br_t rfl hk)
  | v :: W', h, hs, hw =>
    rw [List.length_cons] at hw
    refine T_qIsOn_law h (by omega) ?_
    rw [decide_eq_false (hs v W' rfl)]
    exact br_t rfl hk
theorem T_qDropsNots_of {K : Sto → Prop} (h : RQ τ0 B n τ k C (12 :: W) (o + 1) bs) (hw : W.length < 1700) (hc : C.length < 1600) (hk : ∀ τ', RQ τ0 B n τ' k (C ++ [12]) W o bs → T_qDropsNots τ' K) : T_qDropsNots τ K := by
  have g1 := h.opn o
  have g2 := g1.pop
  have g3 := g2.code 12
  obtain ⟨f, hf⟩ := hk _ g3
  refine ⟨f + 1, ?_⟩
  unfold T_qDropsNots_0
  refine bn_f h.bad (T_qIsOn_law h hw (br_f (by decide) (st_ ?_)))
  rw [h.op, nI_pred]
  refine st_ ?_
  rw [show (sI τ 0 95 (nI o)).1 0 94 - 1 = nI W.length by rw [g1.wl, List.length_cons, nI_pred], g2.wl, nI_clamp (by omega)]
  refine ⟨vi_ hw (by omega), ?_⟩
  unfold T_qCode
  rw [g2.cl, nI_clamp (by omega), sI_neI (show (94 : Nat) ≠ 0 by decide), g1.top]
  refine ⟨vi_ (by omega) (by omega), st_ (st_ ?_)⟩
  rw [sI_neI (show (0 : Nat) ≠ 92 by decide), g2.cl, nI_1]
  exact hf
theorem foE_stop (hw : W.length < 1700) (hs : topN (fun x => x = 12) W) (h : FoG τ0 B n bs K k C W o) : FoE τ0 B n bs K k C W o := by
  intro f KK τ hf hKK g
  exact T_qDropsNots_stop g hw hs (hKK τ C W o g (fun h' hh => h f h' τ hf hh g))
theorem foE_not (hw : W.length < 1700) (hc : C.length < 1600) (h : FoE τ0 B n bs K k (C ++ [12]) W o) : FoE τ0 B n bs K k C (12 :: W) (o + 1) := by
  intro f KK τ hf hKK g
  exact T_qDropsNots_of g hw hc (fun τ' g' => h f KK τ' hf hKK g')
theorem FoG.out (h : k ≤ n → FoG τ0 B n bs K k C W o) : FoG τ0 B n bs K k C W o := fun f h' τ hf hh g => h g.kn f h' τ hf hh g
theorem FoE.out (h : k ≤ n → FoE τ0 B n bs K k C W o) : FoE τ0 B n bs K k C W o := fun f KK τ hf hh g => h g.kn f KK τ hf hh g
theorem T_qHasSquare_law {K : Int32 → Sto → Prop} (h : RQ τ0 B n τ k C W o bs) (hw : W.length < 1700) (h1 : 25 ∈ W → K 1 τ) (h0 : ¬ 25 ∈ W → K 0 τ) : T_qHasSquare τ K := by
  have lp : ∀ (d f i : Nat), W.length - i = d → d < f → i ≤ W.length → (∀ j, j < i → W.reverse.getD j 0 ≠ 25) → T_qHasSquare_2 K f (nI i) τ := by
    intro d
    induction d with
    | zero =>
      intro f i hd hf hi hj
      obtain ⟨f, rfl⟩ : ∃ f', f = f' + 1 := ⟨f - 1, by omega⟩
      unfold T_qHasSquare_2
      rw [h.wl]
      refine br_t (nI_le (by omega) (by omega)) (h0 fun z => ?_)
      rw [← List.mem_reverse] at z
      obtain ⟨j, hj1, hj2⟩ := List.mem_iff_getElem.mp z
      rw [List.length_reverse] at hj1
      refine hj j (by omega) ?_
      rw [List.getD_eq_getElem?_getD, List.getElem?_eq_getElem (by rw [List.length_reverse]; exact hj1), hj2]
      rfl
    | succ d ih =>
      intro f i hd hf hi hj
      obtain ⟨f, rfl⟩ : ∃ f', f = f' + 1 := ⟨f - 1, by omega⟩
      unfold T_qHasSquare_2
      rw [h.wl]
      refine br_f (nI_ge (by omega) (by omega)) ⟨vi_ (by omega) (by omega), ?_⟩
      rw [nI_clamp (by omega), h.ww i (by omega)]
      by_cases e : W.reverse.getD i 0 = 25
      · refine bn_f e (h1 ?_)
        rw [← List.mem_reverse, ← e, List.getD_eq_getElem?_getD, List.getElem?_eq_getElem (by rw [List.length_reverse]; omega)]
        exact List.getElem_mem _
      · refine bn_t e ?_
        rw [nI_1]
        refine ih f (i + 1) (by omega) (by omega) (by omega) (fun j hjj => ?_)
        by_cases e2 : j = i
        · subst e2; exact e
        · exact hj j (by omega)
  exact ⟨W.length + 1, lp W.length _ 0 (by omega) (by omega) (by omega) (fun j hj => absurd hj (by omega))⟩
/-- no square bracket closes here -/
theorem goest_76 {KI : Int32 → Sto → Prop} {h : Nat} (hT : TxT τ0 B n) (g : RQ τ0 B n τ k C W o bs) {p : Nat} (hs : skp B n k = p) (hh : 0 < h) (hw : W.length < 1700)
    (hb : bt B n p = 93 → ¬ 25 ∈ W) (hk : ∀ τ', RQ τ0 B n τ' p C W o bs → T_qGoesOnTest_76 KI τ') : T_qGoesOnTest_0 KI h τ := by
  obtain ⟨h, rfl⟩ : ∃ h', h = h' + 1 := ⟨h - 1, by omega⟩
  unfold T_qGoesOnTest_0
  refine bn_f g.bad (T_look_law hT g fun τ1 g1 => ?_)
  rw [hs] at g1 ⊢
  rw [show (93 : Int32) = nI 93 from rfl, cI_eq (bt_le hT.2.2.2.1) (by omega)]
  by_cases e : bt B n p = 93
  · exact bn_f e (T_qHasSquare_law g1 hw (fun z => absurd z (hb e)) (fun _ => br_t rfl (hk τ1 g1)))
  · exact bn_t e (hk τ1 g1)
/-- a square bracket closes -/
theorem foG_close {pend : List Int32} {p : Nat} (hT : TxT τ0 B n) (hs : skp B n k = p) (hc : bt B n p = 93) (hp : ∀ y, y ∈ pend → lgI y) (hz : C.length + (pend ++ 25 :: W).length ≤ p)
    (h : FoE τ0 B n bs K (p + 1) (C ++ pend) W o) : FoG τ0 B n bs K k C (pend ++ 25 :: W) (o + 1) := by
  have hn := hT.1
  intro f h' τ hf hh g
  have hge : k ≤ p := by rw [← hs]; exact skp_ge B n k
  have hin : p < n := bt_in hc (by omega)
  have hB : B p = 93 := by rw [← hc, bt_lt hin]
  obtain ⟨h', rfl⟩ : ∃ h'', h' = h'' + 1 := ⟨h' - 1, by omega⟩
  have hll : (pend ++ 25 :: W).length < 1700 := by omega
  rw [List.length_append, List.length_cons] at hz
  unfold T_qGoesOnTest_0
  refine bn_f g.bad (T_look_law hT g fun τ1 g1 => ?_)
  rw [hs] at g1 ⊢
  rw [hc]
  refine bn_f rfl (T_qHasSquare_law g1 hll (fun _ => br_f (by decide) (st_ ⟨pend.length + 1, ?_⟩)) (fun z => absurd (by simp) z))
  rw [g1.at_, nI_1]
  have g2 := g1.go (E' := EnO B n (p + 1)) (k' := p + 1) (by omega) (g1.en.sign hn hin (by rw [hB]; decide) (by rw [hB]; decide))
  have lp : ∀ (pend C : List Int32) (m : Nat) (τ : Sto), (∀ y, y ∈ pend → lgI y) → pend.length < m → pend.length + W.length + 1 < 1700 → C.length + pend.length ≤ 1600 → RQ τ0 B n τ (p + 1) C (pend ++ 25 :: W) (o + 1) bs → FoE τ0 B n bs K (p + 1) (C ++ pend) W o → T_qGoesOnTest_33 (GKt K f) (T_qGoesOnTest_0 (GKt K f) h') m τ := by
    intro pend
    induction pend with
    | nil =>
      intro C m τ hp hm hl hc g hE
      obtain ⟨m, rfl⟩ : ∃ m', m = m' + 1 := ⟨m - 1, by omega⟩
      rw [List.nil_append] at g
      rw [List.append_nil] at hE
      unfold T_qGoesOnTest_33
      refine T_qIsOn_law g (by simp only [List.length_nil] at hl; omega) (bn_t (by decide) (st_ (st_ ?_)))
      rw [show τ.1 0 94 - 1 = nI W.length by rw [g.wl, List.length_cons, nI_pred]]
      have g3 := g.pop
      rw [g3.op, nI_pred]
      exact hE f _ _ (by omega) (fun τ' C' W' o' _ hG => hG h' (by omega)) (g3.opn o)
    | cons y pend ih =>
      intro C m τ hp hm hl hc g hE
      obtain ⟨m, rfl⟩ : ∃ m', m = m' + 1 := ⟨m - 1, by omega⟩
      rw [List.cons_append] at g
      rw [List.length_cons] at hm hl hc
      have hl2 : (pend ++ 25 :: W).length < 1700 := by rw [List.length_append, List.length_cons]; omega
      unfold T_qGoesOnTest_33
      refine T_qIsOn_law g hl2 ?_
      rw [decide_eq_false (by rcases hp y (by simp) with rfl | rfl <;> decide)]
      refine bn_f rfl (T_qDrops_law g (by omega) hl2 fun τ' g' => ?_)
      exact ih (C ++ [y]) m τ' (fun z hz => hp z (by simp [hz])) (by omega) (by omega) (by simp; omega) g' (by rw [List.append_assoc]; exact hE)
  exact lp pend C _ _ hp (by omega) (by omega) (by omega) g2 h
/-- 'and' -/
theorem foG_and {pend : List Int32} {p : Nat} (hT : TxT τ0 B n) (hs : skp B n k = p) (hc : hereW B n k andWd = true) (hp : ∀ y, y ∈ pend → y = 10) (hW : topN (fun x => x = 10) W) (hz : C.length + (pend ++ W).length ≤ p)
    (h : FoP τ0 B n bs K (wEn B n p) (C ++ pend) (10 :: W) o) : FoG τ0 B n bs K k C (pend ++ W) o := by
  have hn := hT.1
  intro f h' τ hf hh g
  have hge : k ≤ p := by rw [← hs]; exact skp_ge B n k
  have hpn : p ≤ n := by rw [← hs]; exact skp_le g.kn
  have hll : (pend ++ W).length < 1700 := by omega
  rw [List.length_append] at hz
  have hpp : skp B n p = p := by rw [← hs, skp_idem]
  have hhe : hereW B n p andWd = true := by rw [← hs, hereW_skp]; exact hc
  have hpl : pL (bt B n p) = true := by
    simp only [hereW, Bool.and_eq_true, hpp] at hhe
    have := hhe.1; simp only [okW, Bool.and_eq_true] at this; exact this.1
  have hgt := wEn_gt hpl
  refine goest_76 hT g hs (by omega) hll (fun e => by rw [e] at hpl; exact absurd hpl (by decide)) fun τ1 g1 => ?_
  unfold T_qGoesOnTest_76
  refine T_eats_law hT g1 (w := andWd) (by decide) (fun e τ2 g2 => br_f (by decide) ⟨pend.length + 1, ?_⟩) (fun e => by rw [hhe] at e; cases e)
  rw [hpp] at g2
  have hwn := g2.kn
  have lp : ∀ (pend C : List Int32) (m : Nat) (τ : Sto), (∀ y, y ∈ pend → y = 10) → pend.length < m → pend.length + W.length < 1650 → C.length + pend.length ≤ 1600 → RQ τ0 B n τ (wEn B n p) C (pend ++ W) o bs → FoP τ0 B n bs K (wEn B n p) (C ++ pend) (10 :: W) o → T_qGoesOnTest_87 (GKt K f) m τ := by
    intro pend
    induction pend with
    | nil =>
      intro C m τ hp hm hl hc g hP
      obtain ⟨m, rfl⟩ : ∃ m', m = m' + 1 := ⟨m - 1, by omega⟩
      rw [List.nil_append] at g
      rw [List.append_nil] at hP
      simp only [List.length_nil] at hl
      unfold T_qGoesOnTest_87
      have fin : vp_in (τ.1 0 94) 1700 ∧ (∀ τ11 : Sto, τ11 = sI τ 94 (Int32.toNatClampNeg (τ.1 0 94)) 10 → (∀ τ12 : Sto, τ12 = sI τ11 0 94 ((τ11.1 0 94) + 1) → (GKt K f 1 τ12))) := by
        rw [g.wl]
        refine ⟨vi_ (by omega) (by omega), st_ (st_ ?_)⟩
        rw [nI_clamp (by omega), sI_neI (by simp), g.wl, nI_1]
        exact br_f (by decide) (hP f _ (by omega) (g.push 10))
      match W, g, hW, hl with
      | [], g, _, _ => exact T_qIsOn_nil g (br_t rfl fin)
      | v :: W', g, hW, hl =>
        rw [List.length_cons] at hl
        refine T_qIsOn_law g (by omega) ?_
        rw [decide_eq_false (hW v W' rfl)]
        exact br_t rfl fin
    | cons y pend ih =>
      intro C m τ hp hm hl hc g hP
      obtain ⟨m, rfl⟩ : ∃ m', m = m' + 1 := ⟨m - 1, by omega⟩
      rw [List.cons_append] at g
      rw [List.length_cons] at hm hl hc
      have hl2 : (pend ++ W).length < 1700 := by rw [List.length_append]; omega
      unfold T_qGoesOnTest_87
      refine T_qIsOn_law g hl2 ?_
      rw [hp y (by simp)]
      refine br_f (by decide) (T_qDrops_law g (by omega) hl2 fun τ' g' => ?_)
      exact ih (C ++ [y]) m τ' (fun z hz => hp z (by simp [hz])) (by omega) (by omega) (by simp; omega) g' (by rw [List.append_assoc]; exact hP)
  exact lp pend C _ _ hp (by omega) (by omega) (by omega) g2 h
/-- 'or' -/
theorem foG_or {pend : List Int32} {p : Nat} (hT : TxT τ0 B n) (hs : skp B n k = p) (hc : hereW B n k orWd = true) (hp : ∀ y, y ∈ pend → lgI y) (hW : topN lgI W) (hz : C.length + (pend ++ W).length ≤ p)
    (h : FoP τ0 B n bs K (wEn B n p) (C ++ pend) (11 :: W) o) : FoG τ0 B n bs K k C (pend ++ W) o := by
  have hn := hT.1
  intro f h' τ hf hh g
  have hge : k ≤ p := by rw [← hs]; exact skp_ge B n k
  have hpn : p ≤ n := by rw [← hs]; exact skp_le g.kn
  have hll : (pend ++ W).length < 1700 := by omega
  rw [List.length_append] at hz
  have hpp : skp B n p = p := by rw [← hs, skp_idem]
  have hhe : hereW B n p orWd = true := by rw [← hs, hereW_skp]; exact hc
  have hhe' := hhe
  simp only [hereW, Bool.and_eq_true, hpp, decide_eq_true_eq] at hhe'
  have hpl : pL (bt B n p) = true := by
    have := hhe'.1; simp only [okW, Bool.and_eq_true] at this; exact this.1
  have hand : hereW B n p andWd = false := by
    simp only [hereW, hpp, hhe'.2, hhe'.1, Bool.true_and]; decide
  have hgt := wEn_gt hpl
  refine goest_76 hT g hs (by omega) hll (fun e => by rw [e] at hpl; exact absurd hpl (by decide)) fun τ1 g1 => ?_
  unfold T_qGoesOnTest_76
  refine T_eats_law hT g1 (w := andWd) (by decide) (fun e => by rw [hand] at e; cases e) (fun _ τ2 g2 => br_t rfl ?_)
  rw [hpp] at g2
  refine T_eats_law hT g2 (w := orWd) (by decide) (fun e τ3 g3 => br_f (by decide) ⟨pend.length + 1, ?_⟩) (fun e => by rw [hhe] at e; cases e)
  rw [hpp] at g3
  have hwn := g3.kn
  have lp : ∀ (pend C : List Int32) (m : Nat) (τ : Sto), (∀ y, y ∈ pend → lgI y) → pend.length < m → pend.length + W.length < 1650 → C.length + pend.length ≤ 1600 → RQ τ0 B n τ (wEn B n p) C (pend ++ W) o bs → FoP τ0 B n bs K (wEn B n p) (C ++ pend) (11 :: W) o → T_qGoesOnTest_137 (GKt K f) m τ := by
    intro pend
    induction pend with
    | nil =>
      intro C m τ hp hm hl hc g hP
      obtain ⟨m, rfl⟩ : ∃ m', m = m' + 1 := ⟨m - 1, by omega⟩
      rw [List.nil_append] at g
      rw [List.append_nil] at hP
      simp only [List.length_nil] at hl
      unfold T_qGoesOnTest_137
      have fin : vp_in (τ.1 0 94) 1700 ∧ (∀ τ11 : Sto, τ11 = sI τ 94 (Int32.toNatClampNeg (τ.1 0 94)) 11 → (∀ τ12 : Sto, τ12 = sI τ11 0 94 ((τ11.1 0 94) + 1) → (GKt K f 1 τ12))) := by
        rw [g.wl]
        refine ⟨vi_ (by omega) (by omega), st_ (st_ ?_)⟩
        rw [nI_clamp (by omega), sI_neI (by simp), g.wl, nI_1]
        exact br_f (by decide) (hP f _ (by omega) (g.push 11))
      match W, g, hW, hl with
      | [], g, _, _ => exact T_qIsOn_nil g (bn_f rfl (T_qIsOn_nil g (br_t rfl fin)))
      | v :: W', g, hW, hl =>
        rw [List.length_cons] at hl
        refine T_qIsOn_law g (by omega) ?_
        rw [decide_eq_false (fun z => hW v W' rfl (Or.inl z))]
        refine bn_f rfl (T_qIsOn_law g (by omega) ?_)
        rw [decide_eq_false (fun z => hW v W' rfl (Or.inr z))]
        exact br_t rfl fin
    | cons y pend ih =>
      intro C m τ hp hm hl hc g hP
      obtain ⟨m, rfl⟩ : ∃ m', m = m' + 1 := ⟨m - 1, by omega⟩
      rw [List.cons_append] at g
      rw [List.length_cons] at hm hl hc
      have hl2 : (pend ++ W).length < 1700 := by rw [List.length_append]; omega
      unfold T_qGoesOnTest_137
      have fin : T_qDrops τ (fun τ3 => T_qGoesOnTest_137 (GKt K f) m τ3) := by
        refine T_qDrops_law g (by omega) hl2 fun τ' g' => ?_
        exact ih (C ++ [y]) m τ' (fun z hz => hp z (by simp [hz])) (by omega) (by omega) (by simp; omega) g' (by rw [List.append_assoc]; exact hP)
      rcases hp y (by simp) with rfl | rfl
      · exact T_qIsOn_law g hl2 (bn_t (by decide) fin)
      · exact T_qIsOn_law g hl2 (bn_f (by decide) (T_qIsOn_law g hl2 (br_f (by decide) fin)))
  exact lp pend C _ _ hp (by omega) (by omega) (by omega) g3 h
/-- neither: a bracket stays open, or the test ends -/
theorem foG_end {p : Nat} (hT : TxT τ0 B n) (hs : skp B n k = p) (h1 : hereW B n k andWd = false) (h2 : hereW B n k orWd = false) (hz : C.length + W.length ≤ p) (hsq : bt B n p = 93 → ¬ 25 ∈ W)
    (hF : 25 ∈ W → FFt z0 τ0 B n bs K 1 p) (hk : ¬ 25 ∈ W → ∀ τ', RQ τ0 B n τ' p (C ++ W) [] o bs → K τ') : FoG τ0 B n bs K k C W o := by
  have hn := hT.1
  intro f h' τ hf hh g
  have hge : k ≤ p := by rw [← hs]; exact skp_ge B n k
  have hpn : p ≤ n := by rw [← hs]; exact skp_le g.kn
  have hpp : skp B n p = p := by rw [← hs, skp_idem]
  have e1 : hereW B n p andWd = false := by rw [← hs, hereW_skp]; exact h1
  have e2 : hereW B n p orWd = false := by rw [← hs, hereW_skp]; exact h2
  refine goest_76 hT g hs (by omega) (by omega) hsq fun τ1 g1 => ?_
  unfold T_qGoesOnTest_76
  refine T_eats_law hT g1 (w := andWd) (by decide) (fun e => by rw [e1] at e; cases e) (fun _ τ2 g2 => br_t rfl ?_)
  rw [hpp] at g2
  refine T_eats_law hT g2 (w := orWd) (by decide) (fun e => by rw [e2] at e; cases e) (fun _ τ3 g3 => br_t rfl (bn_f g3.bad ?_))
  rw [hpp] at g3
  refine T_qHasSquare_law g3 (by omega) (fun hq => br_f (by decide) (T_fail_law g3 (kd := 1) rfl g3.at_ (by omega) (by omega) fun τ4 g4 => GKt_bad (hF hq) (g4.mono (by omega)) (by omega) 0)) (fun hq => br_t rfl (br_t rfl ?_))
  obtain ⟨f, rfl⟩ : ∃ f', f = f' + 1 := ⟨f - 1, by omega⟩
  unfold T_qTest_2
  refine br_t rfl ⟨W.length + 1, ?_⟩
  have drop : ∀ (W C : List Int32) (m : Nat) (τ : Sto), W.length < m → W.length < 1700 → C.length + W.length ≤ 1600 → RQ τ0 B n τ p C W o bs → (∀ τ', RQ τ0 B n τ' p (C ++ W) [] o bs → K τ') → T_qTest_110 K m τ := by
    intro W
    induction W with
    | nil =>
      intro C m τ hm hl hc g hk
      obtain ⟨m, rfl⟩ : ∃ m', m = m' + 1 := ⟨m - 1, by omega⟩
      unfold T_qTest_110
      refine bn_f g.bad ?_
      rw [g.wl]
      exact br_t (by decide) (hk _ (by rw [List.append_nil]; exact g))
    | cons y W ih =>
      intro C m τ hm hl hc g hk
      obtain ⟨m, rfl⟩ : ∃ m', m = m' + 1 := ⟨m - 1, by omega⟩
      rw [List.length_cons] at hm hl hc
      unfold T_qTest_110
      refine bn_f g.bad ?_
      rw [g.wl, List.length_cons]
      refine br_f (nI_nle (by omega) (by omega)) (T_qDrops_law g (by omega) (by omega) fun τ' g' => ?_)
      refine ih (C ++ [y]) m τ' (by omega) (by omega) (by simp; omega) g' (fun τ'' g'' => hk τ'' ?_)
      rw [List.append_assoc] at g''
      exact g''
  exact drop W C _ τ3 (by omega) (by omega) (by omega) g3 (hk hq)
end TT1
