/-! COMPONENT, PURE SIDE: chains (products, sums) over what they are made of. -/
def bd {α : Type} (n k : Nat) (r : Rs (α × Nat)) : Nat := match r with
  | .inl _ => n + 6 - k
  | .inr x => x.2 - k
def PrA {α : Type} (n : Nat) (A : Nat → Rs (α × Nat)) : Prop := ∀ k v k', k ≤ n → A k = .inr (v, k') → k < k' ∧ k' ≤ n
/-- P reads what A tells: a sum, d deep -/
def AtL (B : Byt) (n tk d ca za : Nat) (P : PTR) (A : Nat → Rs (VV × Nat)) (o : Nat) : Prop := ∀ (mc ms k : Nat) (σ : CS) (K : Nat → CS → Prop) (E : CS → Prop), RdC B n σ k o → gI σ 9 5 = ctx tk → σ.1 + mc ≤ CB → 60 * bd n k (A k) ≤ mc + ca → 4500 * bd n k (A k) ≤ ms + za → (∀ e, A k = .inl e → ErC mc σ E e) → (∀ v k', A k = .inr (v, k') → ∀ σ' q, FrC σ σ' → σ'.1 ≤ σ.1 + mc → RdC B n σ' k' o → VC tk σ' (newS σ.1 σ'.1) d q v → K (q + 1) σ') → P mc ms σ K E
def chSp (B : Byt) (n s1 s2 : Nat) (A : Nat → Rs (VV × Nat)) : Nat → VV → Nat → Rs (VV × Nat)
  | 0, v, k => .inr (v, skp B n k)
  | f + 1, v, k => if bt B n (skp B n k) = s1 ∨ bt B n (skp B n k) = s2 then
      rsB (A (skp B n k + 1)) (fun r => chSp B n s1 s2 A f (fun e => hdL (twoL (bt B n (skp B n k)) (v e) (r.1 e))) r.2)
    else .inr (v, skp B n k)
def chA (B : Byt) (n s1 s2 : Nat) (A : Nat → Rs (VV × Nat)) (k : Nat) : Rs (VV × Nat) := rsB (A k) (fun r => chSp B n s1 s2 A (n - r.2) r.1 r.2)
def chL (P : PTR) (s1 s2 : Int32) (mc ms : Nat) (K : Nat → CS → Prop) (E : CS → Prop) (x1 : Nat) : Nat → Int32 → Nat → Nat → CS → Prop
  | 0 => fun _ _ _ _ => False
  | n + 1 => fun x2 cx zx σ => ((x2 = 0 → (K x1 σ)) ∧ (¬ x2 = 0 → (U_X2_takes σ s1 (fun r2 σ1 => (((r2 = 0 → (U_X2_takes σ1 s2 (fun r4 σ3 => (((r4 = 0 → (chL P s1 s2 mc ms K E x1 n 0 cx zx σ3)) ∧ (¬ r4 = 0 → (∃ mc7 ms8 : Nat, (cx + mc7 ≤ mc ∧ zx + ms8 ≤ ms) ∧ (P mc7 ms8 σ3 (fun r6 σ5 => (∃ q9, x1 = q9 + 1 ∧ (∃ q10, r6 = q10 + 1 ∧ (gK σ5 q9 = some kO13 ∧ (∃ mc13 ms14 : Nat, (cx + mc7 + mc13 ≤ mc ∧ zx + ms8 + ms14 ≤ ms) ∧ (U_X16_add mc13 ms14 σ5 q9 s2 q10 (fun _ σ11 => (chL P s1 s2 mc ms K E x1 n x2 (cx + mc7 + mc13) (zx + ms8 + ms14) σ11)))))))) E)))))))) ∧ (¬ r2 = 0 → (∃ mc17 ms18 : Nat, (cx + mc17 ≤ mc ∧ zx + ms18 ≤ ms) ∧ (P mc17 ms18 σ1 (fun r16 σ15 => (∃ q19, x1 = q19 + 1 ∧ (∃ q20, r16 = q20 + 1 ∧ (gK σ15 q19 = some kO13 ∧ (∃ mc23 ms24 : Nat, (cx + mc17 + mc23 ≤ mc ∧ zx + ms18 + ms24 ≤ ms) ∧ (U_X16_add mc23 ms24 σ15 q19 s1 q20 (fun _ σ21 => (chL P s1 s2 mc ms K E x1 n x2 (cx + mc17 + mc23) (zx + ms18 + ms24) σ21)))))))) E)))))))))
theorem chL_pro (PA PF : PTR) (mc ms : Nat) (K : Nat → CS → Prop) (E : CS → Prop) (x1 : Nat) : ∀ n, U_X2_product_20 PA PF mc ms K E x1 n = chL PA 42 47 mc ms K E x1 n
  | 0 => rfl
  | n + 1 => by
    unfold U_X2_product_20 chL
    rw [chL_pro PA PF mc ms K E x1 n]
theorem chL_sum (PA PF : PTR) (mc ms : Nat) (K : Nat → CS → Prop) (E : CS → Prop) (x1 : Nat) : ∀ n, U_X2_sum_20 PA PF mc ms K E x1 n = chL (fun mc ms σ K E => U_X2_product PA PF mc ms σ K E) 43 45 mc ms K E x1 n
  | 0 => rfl
  | n + 1 => by
    unfold U_X2_sum_20 chL
    rw [chL_sum PA PF mc ms K E x1 n]
theorem chSp_pro (B : Byt) (n : Nat) (A : Nat → Rs (VV × Nat)) : ∀ f, pPrL B n A f = chSp B n 42 47 A f
  | 0 => rfl
  | f + 1 => by
    funext v k
    unfold pPrL chSp
    rw [chSp_pro B n A f]
theorem chSp_sum (B : Byt) (n : Nat) (A : Nat → Rs (VV × Nat)) : ∀ f, pSuL B n A f = chSp B n 43 45 (pPro B n A) f
  | 0 => rfl
  | f + 1 => by
    funext v k
    unfold pSuL chSp
    rw [chSp_sum B n A f]
theorem chA_pro (B : Byt) (n : Nat) (A : Nat → Rs (VV × Nat)) : pPro B n A = chA B n 42 47 A := by
  funext k
  unfold pPro chA
  simp only [chSp_pro]
theorem chA_sum (B : Byt) (n : Nat) (A : Nat → Rs (VV × Nat)) : pSum B n A = chA B n 43 45 (pPro B n A) := by
  funext k
  unfold pSum chA
  simp only [chSp_sum]
section C2
variable {σ0 σ σ' : CS} {i j k k' n o q x mc ms c m tk d ca za s1 s2 : Nat} {B : Byt} {S S' : Nat → Prop} {el sg : Nat → Nat} {P : PTR} {A : Nat → Rs (VV × Nat)}
theorem chSp_pr (hA : PrA n A) (h1 : s1 < 256) (h2 : s2 < 256) : ∀ f v k w k', k ≤ n → chSp B n s1 s2 A f v k = .inr (w, k') → k ≤ k' ∧ k' ≤ n
  | 0, v, k, w, k', hk, e => by
    injection e with e
    injection e with e1 e2
    have := skp_ge B n k
    have := skp_le (B := B) hk
    omega
  | f + 1, v, k, w, k', hk, e => by
    have g1 := skp_ge B n k
    have g2 := skp_le (B := B) hk
    unfold chSp at e
    split at e
    · rename_i hc
      have hin : skp B n k < n := by
        rcases hc with hc | hc
        · exact bt_in hc (by omega)
        · exact bt_in hc (by omega)
      cases ha : A (skp B n k + 1) with
      | inl z => rw [ha] at e; cases e
      | inr r =>
        rw [ha] at e
        have p1 := hA _ r.1 r.2 hin ha
        have p2 := chSp_pr hA h1 h2 f _ r.2 w k' p1.2 e
        omega
    · injection e with e
      injection e with e1 e2
      omega
theorem chA_pr (hA : PrA n A) (h1 : s1 < 256) (h2 : s2 < 256) : PrA n (chA B n s1 s2 A) := by
  intro k v k' hk e
  unfold chA at e
  cases ha : A k with
  | inl z => rw [ha] at e; cases e
  | inr r =>
    rw [ha] at e
    have p1 := hA _ r.1 r.2 hk ha
    have p2 := chSp_pr hA h1 h2 _ _ r.2 v k' p1.2 e
    omega
theorem chV_congr {sg' : Nat → Nat} {vs vs' : Nat → VV} : ∀ m, (∀ j, j ≤ m → sg j = sg' j ∧ vs j = vs' j) → chV sg vs m = chV sg' vs' m
  | 0, h => (h 0 (Nat.le_refl _)).2
  | m + 1, h => by
    unfold chV
    rw [chV_congr m (fun j hj => h j (by omega)), (h (m + 1) (Nat.le_refl _)).1, (h (m + 1) (Nat.le_refl _)).2]
/-- a chain as a sum -/
theorem ChX.vc {vs : Nat → VV} (h : ChX σ c (m + 1) el sg S) (hm : m + 1 ≤ 2000) (hS : ∀ i, S i → c < i ∧ i < σ.1) (hv : ∀ j, j ≤ m → VC tk σ S d (el j) (vs j)) : VC tk σ (newS c σ.1) (d + 1) c (chV sg vs m) := by
  obtain ⟨li, ar, cap, sb, yb, dc, h1, h2, h3, h4, ⟨h5, h5'⟩, h6, h7, h8, h9⟩ := h
  refine ⟨⟨Nat.le_refl _, by omega⟩, Or.inr (Or.inr (Or.inr (Or.inr ⟨h1, li, sb, m, el, sg, vs, h2, h3, h4.c hm ⟨by omega, by omega⟩ ⟨by omega, by omega⟩, h5.c hm ⟨by omega, by omega⟩ ⟨by omega, by omega⟩, fun j hj => ?_, rfl⟩)))⟩
  exact VC.fr (fun i _ => agr.refl σ i) (fun i hi => ⟨Nat.le_of_lt (hS i hi).1, (hS i hi).2⟩) _ _ _ (hv j hj)
theorem bd_split {α : Type} {X : Rs (α × Nat)} {k1 : Nat} (h1 : k ≤ k1) (h2 : k1 ≤ n) (h3 : ∀ w k', X = .inr (w, k') → k1 ≤ k') : bd n k X = (k1 - k) + bd n k1 X := by
  cases X with
  | inl e => show n + 6 - k = _ + (n + 6 - k1); omega
  | inr r =>
    have := h3 r.1 r.2 rfl
    show r.2 - k = _ + (r.2 - k1); omega
theorem RdC.agr (h : RdC B n σ k o) (f : ∀ i, i < 1296 ∨ CB ≤ i → agr σ σ' i) (hz : σ.1 ≤ σ'.1) (hc : σ'.1 ≤ CB) : RdC B n σ' k o := by
  have a9 := (f 9 (by omega)).2.1
  refine ⟨⟨by have := h.sz; omega, hc⟩, h.2.1, by rw [a9]; exact h.en, by rw [a9]; exact h.at_, by rw [a9]; exact h.op, fun i hi => by rw [(f 8 (by omega)).2.1]; exact h.tp i hi, fun i hi => ?_⟩
  have a := f i (Or.inr hi)
  have b := h.ko i hi
  exact ⟨a.1.trans b.1, a.2.1.trans b.2.1, a.2.2.2.trans b.2.2⟩
theorem FrC.of_agr (h : FrC σ0 σ) (f : ∀ i, i < σ0.1 ∨ CB ≤ i → agrX σ σ' i) (hz : σ.1 ≤ σ'.1) : FrC σ0 σ' := ⟨Nat.le_trans h.1 hz, fun i hi => by
  obtain ⟨a1, a2, a3, a4⟩ := h.2 i hi
  have b := f i hi
  exact ⟨b.1.trans a1, b.2.2.1.trans a2, b.2.2.2.trans a3, fun j hj => by rw [b.2.1]; exact a4 j hj⟩⟩
theorem ctx_fr (h : gI σ 9 5 = ctx tk) (f : FrC σ σ') (hz : 1296 ≤ σ.1) : gI σ' 9 5 = ctx tk := by
  rw [(f.2 9 (Or.inl (by omega))).2.2.2 5 (by unfold scR; omega)]; exact h
theorem cr_chStop {K : Nat → CS → Prop} {E : CS → Prop} {x1 F cx zx : Nat} (h : RdC B n σ k o) (hs : s1 < 256 ∧ s2 < 256) (hn1 : bt B n (skp B n k) ≠ s1) (hn2 : bt B n (skp B n k) ≠ s2) (hk : ∀ σ', FrC σ σ' → σ'.1 = σ.1 → RdC B n σ' (skp B n k) o → K x1 σ') : chL P (nI s1) (nI s2) mc ms K E x1 (F + 2) 1 cx zx σ := by
  unfold chL
  refine br_f (by decide) (cr_takes h rfl hs.1 (fun e => absurd e hn1) (fun _ s f hz g => br_t rfl (cr_takes g rfl hs.2 (fun e => ?_) (fun _ s' f' hz' g' => br_t rfl ?_))))
  · rw [skp_idem] at e; exact absurd e hn2
  · rw [skp_idem] at g'
    unfold chL
    exact br_t rfl (hk s' (f.trans f') (by omega) g')
theorem cr_chL (hA : AtL B n tk d ca za P A o) (hp : PrA n A) (hca : ca ≤ 50) (hza : za ≤ 2200) (hsg : (s1 = 42 ∧ s2 = 47) ∨ (s1 = 43 ∧ s2 = 45)) {K : Nat → CS → Prop} {E : CS → Prop} {k0 : Nat} (hc0 : 1296 ≤ c) (hcb : σ0.1 + mc ≤ CB) (hc : c = σ0.1) :
    ∀ (f F m k cx zx : Nat) (σ : CS) (el sg : Nat → Nat) (vs : Nat → VV) (S : Nat → Prop), n ≤ f + k → f + 2 ≤ F → RdC B n σ k o → gI σ 9 5 = ctx tk → FrC σ0 σ → σ.1 ≤ σ0.1 + cx → ChX σ c (m + 1) el sg S → (∀ i, S i → c < i ∧ i < σ.1) → (∀ j, j ≤ m → VC tk σ S d (el j) (vs j)) → k0 + 2 * m + 1 ≤ k →
      cx + 60 * bd n k (chSp B n s1 s2 A f (chV sg vs m) k) ≤ mc → zx + 4500 * bd n k (chSp B n s1 s2 A f (chV sg vs m) k) ≤ ms →
      (∀ e, chSp B n s1 s2 A f (chV sg vs m) k = .inl e → ErC mc σ0 E e) →
      (∀ v k', chSp B n s1 s2 A f (chV sg vs m) k = .inr (v, k') → ∀ σ', FrC σ0 σ' → σ'.1 ≤ σ0.1 + mc → RdC B n σ' k' o → VC tk σ' (newS σ0.1 σ'.1) (d + 1) c v → K (c + 1) σ') →
      chL P (nI s1) (nI s2) mc ms K E (c + 1) F 1 cx zx σ := by
  have hs12 : s1 < 256 ∧ s2 < 256 := by omega
  have stop : ∀ (f F m k cx zx : Nat) (σ : CS) (el sg : Nat → Nat) (vs : Nat → VV) (S : Nat → Prop), 2 ≤ F → RdC B n σ k o → FrC σ0 σ → σ.1 ≤ σ0.1 + mc → ChX σ c (m + 1) el sg S → (∀ i, S i → c < i ∧ i < σ.1) → (∀ j, j ≤ m → VC tk σ S d (el j) (vs j)) → k0 + 2 * m + 1 ≤ k → bt B n (skp B n k) ≠ s1 → bt B n (skp B n k) ≠ s2 →
      (∀ σ', FrC σ0 σ' → σ'.1 ≤ σ0.1 + mc → RdC B n σ' (skp B n k) o → VC tk σ' (newS σ0.1 σ'.1) (d + 1) c (chV sg vs m) → K (c + 1) σ') → chL P (nI s1) (nI s2) mc ms K E (c + 1) F 1 cx zx σ := by
    intro f F m k cx zx σ el sg vs S hF h f0 hz hch hS hv hk0 hn1 hn2 hK
    obtain ⟨F, rfl⟩ : ∃ F', F = F' + 2 := ⟨F - 2, by omega⟩
    have hn := h.nn
    have hkn := h.kn
    refine cr_chStop h hs12 hn1 hn2 fun s f1 z1 g1 => ?_
    have ag : ∀ i, c ≤ i → i < σ.1 → agr σ s i := fun i h1 h2 => f1.agr (Or.inl h2) (by omega) (by omega)
    have hch' : ChX s c (m + 1) el sg S := hch.fr ag (by omega)
    refine hK s (f0.trans f1) (by omega) g1 ?_
    rw [← hc]
    exact hch'.vc (by omega) (fun i hi => by have := hS i hi; omega) (fun j hj => VC.fr (fun i hi => ag i (by have := hS i hi; omega) (hS i hi).2) (fun _ hi => hi) _ _ _ (hv j hj))
  intro f
  induction f with
  | zero =>
    intro F m k cx zx σ el sg vs S hfk hF h h5 f0 hz hch hS hv hk0 hb1 hb2 hE hK
    have hkn := h.kn
    have e1 : bt B n (skp B n k) = 256 := by
      have := skp_ge B n k
      exact bt_ge (by omega)
    exact stop 0 F m k cx zx σ el sg vs S (by omega) h f0 (by omega) hch hS hv hk0 (by omega) (by omega) (fun s a b g v => hK _ _ rfl s a b g v)
  | succ f ih =>
    intro F m k cx zx σ el sg vs S hfk hF h h5 f0 hz hch hS hv hk0 hb1 hb2 hE hK
    by_cases hsn : bt B n (skp B n k) = s1 ∨ bt B n (skp B n k) = s2
    · have hge := skp_ge B n k
      have hin : skp B n k < n := by
        rcases hsn with e | e
        · exact bt_in e (by omega)
        · exact bt_in e (by omega)
      have hn := h.nn
      have hsz := h.sz
      have step : ∀ (s : Nat), bt B n (skp B n k) = s → (s = 42 ∨ s = 43 ∨ s = 45 ∨ s = 47) → ∀ (F' : Nat) (σ1 : CS), F = F' + 1 → FrC σ σ1 → σ1.1 = σ.1 → RdC B n σ1 (skp B n k + 1) o → (∃ mc7 ms8 : Nat, (cx + mc7 ≤ mc ∧ zx + ms8 ≤ ms) ∧ (P mc7 ms8 σ1 (fun r6 σ5 => (∃ q9, c + 1 = q9 + 1 ∧ (∃ q10, r6 = q10 + 1 ∧ (gK σ5 q9 = some kO13 ∧ (∃ mc13 ms14 : Nat, (cx + mc7 + mc13 ≤ mc ∧ zx + ms8 + ms14 ≤ ms) ∧ (U_X16_add mc13 ms14 σ5 q9 (nI s) q10 (fun _ σ11 => (chL P (nI s1) (nI s2) mc ms K E (c + 1) F' 1 (cx + mc7 + mc13) (zx + ms8 + ms14) σ11)))))))) E)) := by
        intro s hbs hs F' σ1 hF' f1 z1 g1
        have h5' := ctx_fr h5 f1 hsz.1
        have ec0 : chSp B n s1 s2 A (f + 1) (chV sg vs m) k = rsB (A (skp B n k + 1)) (fun r => chSp B n s1 s2 A f (fun e => hdL (twoL (bt B n (skp B n k)) (chV sg vs m e) (r.1 e))) r.2) := by
          show (if _ then _ else _) = _
          rw [if_pos hsn]
        cases hAk : A (skp B n k + 1) with
        | inl e =>
          rw [hAk] at ec0
          have ec : chSp B n s1 s2 A (f + 1) (chV sg vs m) k = .inl e := ec0
          rw [ec] at hb1 hb2 hE
          have hb1 : cx + 60 * (n + 6 - k) ≤ mc := hb1
          have hb2 : zx + 4500 * (n + 6 - k) ≤ ms := hb2
          refine ⟨60 * (n + 6 - (skp B n k + 1)) - ca, 4500 * (n + 6 - (skp B n k + 1)) - za, ⟨by omega, by omega⟩, hA _ _ (skp B n k + 1) σ1 _ _ g1 h5' (by omega) ?_ ?_ (fun e' he' => ?_) (fun v k' hv' => ?_)⟩
          · rw [hAk]; show 60 * (n + 6 - (skp B n k + 1)) ≤ _; omega
          · rw [hAk]; show 4500 * (n + 6 - (skp B n k + 1)) ≤ _; omega
          · rw [hAk] at he'; injection he' with he'; subst he'
            exact (hE _ rfl).go (f0.trans f1) (by omega)
          · rw [hAk] at hv'; cases hv'
        | inr r =>
          obtain ⟨v1, k1⟩ := r
          rw [hAk] at ec0
          have p1 := hp _ v1 k1 hin hAk
          have ev : (fun e => hdL (twoL (bt B n (skp B n k)) (chV sg vs m e) (v1 e))) = chV (fu_ sg (m + 1) s) (fu_ vs (m + 1) v1) (m + 1) := by
            rw [hbs]
            show _ = fun e => hdL (twoL (fu_ sg (m + 1) s (m + 1)) (chV (fu_ sg (m + 1) s) (fu_ vs (m + 1) v1) m e) (fu_ vs (m + 1) v1 (m + 1) e))
            rw [fu_same, fu_same, chV_congr m (fun j hj => ⟨(fu_ne (by omega) : fu_ sg (m + 1) s j = sg j), (fu_ne (by omega) : fu_ vs (m + 1) v1 j = vs j)⟩)]
          have ec : chSp B n s1 s2 A (f + 1) (chV sg vs m) k = chSp B n s1 s2 A f (chV (fu_ sg (m + 1) s) (fu_ vs (m + 1) v1) (m + 1)) k1 := by
            rw [ec0, ← ev]; rfl
          rw [ec] at hb1 hb2 hE hK
          have hpr : ∀ w k', chSp B n s1 s2 A f (chV (fu_ sg (m + 1) s) (fu_ vs (m + 1) v1) (m + 1)) k1 = .inr (w, k') → k1 ≤ k' := fun w k' hw => (chSp_pr hp hs12.1 hs12.2 f _ k1 w k' p1.2 hw).1
          rw [bd_split (by omega) p1.2 hpr] at hb1 hb2
          refine ⟨60 * (k1 - (skp B n k + 1)) - ca, 4500 * (k1 - (skp B n k + 1)) - za, ⟨by omega, by omega⟩, hA _ _ (skp B n k + 1) σ1 _ _ g1 h5' (by omega) ?_ ?_ (fun e' he' => ?_) (fun v k' hv' t q ft zt gt vct => ?_)⟩
          · rw [hAk]; show 60 * (k1 - (skp B n k + 1)) ≤ _; omega
          · rw [hAk]; show 4500 * (k1 - (skp B n k + 1)) ≤ _; omega
          · rw [hAk] at he'; cases he'
          · rw [hAk] at hv'
            injection hv' with hv'
            injection hv' with e1 e2
            subst e1 e2
            have fst : FrC σ t := f1.trans ft
            have ag : ∀ i, c ≤ i → i < σ.1 → agr σ t i := fun i h1 h2 => fst.agr (Or.inl h2) (by omega) (by omega)
            have hch' : ChX t c (m + 1) el sg (fun i => S i ∨ newS σ1.1 t.1 i) := (hch.more (S' := fun i => S i ∨ newS σ1.1 t.1 i) (fun i hi => hi.imp id (fun z => by have := z.1; omega))).fr ag fst.1
            have zt' : σ1.1 ≤ t.1 := ft.1
            have hv1 : ∀ j, j ≤ m → VC tk t (fun i => S i ∨ newS σ1.1 t.1 i) d (el j) (vs j) := fun j hj => VC.fr (fun i hi => ag i (by have := hS i hi; omega) (hS i hi).2) (fun _ hi => Or.inl hi) _ _ _ (hv j hj)
            have vct' : VC tk t (fun i => S i ∨ newS σ1.1 t.1 i) d q v1 := VC.fr (fun i _ => agr.refl t i) (fun _ hi => Or.inr hi) _ _ _ vct
            have hS1 : ∀ i, (S i ∨ newS σ1.1 t.1 i) → c < i ∧ i < t.1 := fun i hi => by
              rcases hi with hi | hi
              · have := hS i hi; omega
              · have := hi.1; have := hi.2; have := hch.lt; omega
            refine ⟨c, rfl, q, rfl, hch'.kind, 2, 2243, ⟨by omega, by omega⟩, cr_chAdd hs hch' (by omega) (by omega) (Or.inr (by omega)) (by omega) (fun j hj => ⟨(hv1 j (by omega)).isO, (hv1 j (by omega)).inS⟩) ⟨vct'.isO, vct'.inS⟩ (fun i hi => (hS1 i hi).2) fun s2' z2 z3 fr2 ch2 => ?_⟩
            refine ih F' (m + 1) k1 _ _ s2' (fu_ el (m + 1) q) (fu_ sg (m + 1) s) (fu_ vs (m + 1) v1) (fun i => S i ∨ newS σ1.1 t.1 i) (by omega) (by omega) (gt.agr (fun i hi => fr2 i (by omega)) z2 (by omega)) ?_ ((f0.trans fst).of_agr (fun i hi => fr2 i (by omega)) z2) (by omega) ch2 (fun i hi => by have := hS1 i hi; omega) (fun j hj => ?_) (by omega) (by omega) (by omega) hE hK
            · rw [(fr2 9 (by omega)).2.1]; exact ctx_fr h5' ft (by omega)
            · by_cases ej : j = m + 1
              · subst ej
                rw [fu_same, fu_same]
                exact VC.fr (fun i hi => fr2 i (Or.inr (Or.inr hi))) (fun _ hi => hi) _ _ _ vct'
              · rw [fu_ne ej, fu_ne ej]
                exact VC.fr (fun i hi => fr2 i (Or.inr (Or.inr hi))) (fun _ hi => hi) _ _ _ (hv1 j (by omega))
      obtain ⟨F, rfl⟩ : ∃ F', F = F' + 1 := ⟨F - 1, by omega⟩
      unfold chL
      refine br_f (by decide) (cr_takes h rfl hs12.1 (fun e s f1 z1 g1 => br_f (by decide) (step s1 e (by omega) F s rfl f1 z1 g1)) (fun e1 s f1 z1 g1 => br_t rfl (cr_takes g1 rfl hs12.2 (fun e t f2 z2 g2 => br_f (by decide) ?_) (fun e2 => ?_))))
      · rw [skp_idem] at e g2
        exact step s2 e (by omega) F t rfl (f1.trans f2) (by omega) g2
      · rw [skp_idem] at e2
        rcases hsn with z | z
        · exact absurd z e1
        · exact absurd z e2
    · have ec : chSp B n s1 s2 A (f + 1) (chV sg vs m) k = .inr (chV sg vs m, skp B n k) := by
        show (if _ then _ else _) = _
        rw [if_neg hsn]
      rw [ec] at hK
      exact stop f F m k cx zx σ el sg vs S (by omega) h f0 (by omega) hch hS hv hk0 (fun z => hsn (Or.inl z)) (fun z => hsn (Or.inr z)) (fun s a b g v => hK _ _ rfl s a b g v)
/-- a chain, whole -/
def chU (P : PTR) (s1 s2 : Int32) (mc ms : Nat) (σ : CS) (K : Nat → CS → Prop) (E : CS → Prop) : Prop := (1 ≤ mc ∧ 2 ≤ ms) ∧ (σ.1 < CB ∧ (∀ σ25 : CS, σ25 = nC σ kO13 → (∃ mc28 ms29 : Nat, (1 + mc28 ≤ mc ∧ 2 + ms29 ≤ ms) ∧ (U_X16_init mc28 ms29 σ25 (σ.1) (fun _ σ26 => (∃ mc32 ms33 : Nat, (1 + mc28 + mc32 ≤ mc ∧ 2 + ms29 + ms33 ≤ ms) ∧ (P mc32 ms33 σ26 (fun r31 σ30 => (∃ q34, r31 = q34 + 1 ∧ (gK σ30 (σ.1) = some kO13 ∧ (∃ mc37 ms38 : Nat, (1 + mc28 + mc32 + mc37 ≤ mc ∧ 2 + ms29 + ms33 + ms38 ≤ ms) ∧ (U_X16_add mc37 ms38 σ30 (σ.1) s1 q34 (fun _ σ35 => (∃ n20, chL P s1 s2 mc ms K E ((σ.1) + 1) n20 1 (1 + mc28 + mc32 + mc37) (2 + ms29 + ms33 + ms38) σ35))))))) E)))))))
theorem chU_pro (PA PF : PTR) : (fun mc ms σ K E => U_X2_product PA PF mc ms σ K E) = chU PA 42 47 := by
  funext mc ms σ K E
  unfold U_X2_product chU
  simp only [chL_pro]
theorem chU_sum (PA PF : PTR) : (fun mc ms σ K E => U_X2_sum PA PF mc ms σ K E) = chU (fun mc ms σ K E => U_X2_product PA PF mc ms σ K E) 43 45 := by
  funext mc ms σ K E
  unfold U_X2_sum chU
  simp only [chL_sum]
theorem cr_chU (hA : AtL B n tk d ca za P A o) (hp : PrA n A) (hca : ca ≤ 50) (hca7 : 7 ≤ ca) (hza : za ≤ 2200) (hza1 : 100 ≤ za) (hsg : (s1 = 42 ∧ s2 = 47) ∨ (s1 = 43 ∧ s2 = 45)) : AtL B n tk (d + 1) (ca - 7) (za - 100) (chU P (nI s1) (nI s2)) (chA B n s1 s2 A) o := by
  intro mc ms k σ K E h h5 hcb hb1 hb2 hE hK
  have hs12 : s1 < 256 ∧ s2 < 256 := by omega
  have hsz := h.sz
  have hkn := h.kn
  have hn := h.nn
  unfold chA at hb1 hb2 hE hK
  -- the first one's costs
  have hb0 : 1 ≤ bd n k (A k) ∧ bd n k (A k) ≤ bd n k (rsB (A k) (fun r => chSp B n s1 s2 A (n - r.2) r.1 r.2)) := by
    cases hAk : A k with
    | inl e => show 1 ≤ n + 6 - k ∧ n + 6 - k ≤ n + 6 - k; omega
    | inr r =>
      obtain ⟨v1, k1⟩ := r
      have p1 := hp _ v1 k1 hkn hAk
      have hpr : ∀ w k', chSp B n s1 s2 A (n - k1) v1 k1 = .inr (w, k') → k1 ≤ k' := fun w k' hw => (chSp_pr hp hs12.1 hs12.2 _ _ k1 w k' p1.2 hw).1
      show 1 ≤ k1 - k ∧ k1 - k ≤ bd n k (chSp B n s1 s2 A (n - k1) v1 k1)
      rw [bd_split (by omega) p1.2 hpr]
      omega
  refine ⟨⟨by omega, by omega⟩, by omega, st_ ⟨4, 25, ⟨by omega, by omega⟩, ?_⟩⟩
  obtain ⟨t0, ht0⟩ : ∃ t0, t0 = nC σ kO13 := ⟨_, rfl⟩
  rw [← ht0]
  have z0 : t0.1 = σ.1 + 1 := by rw [ht0]; rfl
  have a0 : ∀ i, i ≠ σ.1 → agr σ t0 i := fun i hi => by rw [ht0]; exact (agr.refl σ i).nC hi
  refine cr_chInit (by rw [ht0]; exact gK_n) (by omega) (by omega) (by omega) (by omega) (fun _ => 0) (fun _ => 0) fun t1 z1 f1 ch1 => ?_
  have fs : FrS σ t1 := ⟨by omega, fun i hi => (a0 i (by omega)).trans (f1 i (by omega) (by omega))⟩
  have g1 : RdC B n t1 k o := h.frS fs (by omega)
  have c1 : gI t1 9 5 = ctx tk := ctx_fr h5 fs.c hsz.1
  refine ⟨60 * bd n k (A k) - ca, 4500 * bd n k (A k) - za, ⟨by omega, by omega⟩, hA _ _ k t1 _ _ g1 c1 (by omega) (by omega) (by omega) (fun e he => ?_) (fun v1 k1 hv t2 q f2 z2 g2 vc2 => ?_)⟩
  · rw [he] at hE hb1
    have hb1 : 60 * (n + 6 - k) ≤ mc + (ca - 7) := hb1
    have e6 : bd n k (A k) = n + 6 - k := by rw [he]; rfl
    exact (hE e rfl).go fs.c (by omega)
  · have e6 : bd n k (A k) = k1 - k := by rw [hv]; rfl
    have p1 := hp _ v1 k1 hkn hv
    rw [hv] at hE hK hb1 hb2
    have hpr : ∀ w k', chSp B n s1 s2 A (n - k1) v1 k1 = .inr (w, k') → k1 ≤ k' := fun w k' hw => (chSp_pr hp hs12.1 hs12.2 _ _ k1 w k' p1.2 hw).1
    have hb1 : 60 * bd n k (chSp B n s1 s2 A (n - k1) v1 k1) ≤ mc + (ca - 7) := hb1
    have hb2 : 4500 * bd n k (chSp B n s1 s2 A (n - k1) v1 k1) ≤ ms + (za - 100) := hb2
    rw [bd_split (by omega) p1.2 hpr] at hb1 hb2
    rw [e6] at z2 ⊢
    have ag : ∀ i, σ.1 ≤ i → i < t1.1 → agr t1 t2 i := fun i h1 h2 => f2.agr (Or.inl h2) (by omega) (by omega)
    have ch2 : ChX t2 σ.1 0 (fun _ => 0) (fun _ => 0) (newS t1.1 t2.1) := (ch1.more (S' := newS t1.1 t2.1) (fun i hi => Or.inr hi.1)).fr ag f2.1
    refine ⟨q, rfl, ch2.kind, 2, 0, ⟨by omega, by omega⟩, cr_chAdd (s := s1) (by omega) ch2 (by omega) (by omega) (Or.inl rfl) (by have := f2.1; omega) (fun j hj => absurd hj (by omega)) ⟨vc2.isO, vc2.inS⟩ (fun i hi => hi.2) fun t3 z3 z4 fr3 ch3 => ⟨n - k1 + 2, ?_⟩⟩
    have f2' := f2.1
    refine cr_chL (σ0 := σ) (k0 := k) hA hp hca hza hsg hsz.1 hcb rfl (n - k1) _ 0 k1 _ _ t3 _ _ (fun _ => v1) (newS t1.1 t2.1) (by omega) (by omega) (g2.agr (fun i hi => fr3 i (by omega)) z3 (by omega)) ?_ ((fs.c.trans f2).of_agr (fun i hi => fr3 i (by omega)) z3) (by omega) ch3 (fun i hi => by have := hi.1; have := hi.2; omega) (fun j hj => ?_) (by omega) (by show _ + 60 * bd n k1 (chSp B n s1 s2 A (n - k1) v1 k1) ≤ _; omega) (by show _ + 4500 * bd n k1 (chSp B n s1 s2 A (n - k1) v1 k1) ≤ _; omega) hE ?_
    · rw [(fr3 9 (by omega)).2.1]; exact ctx_fr c1 f2 (by omega)
    · obtain rfl : j = 0 := by omega
      rw [fu_same]
      exact VC.fr (fun i hi => fr3 i (Or.inr (Or.inr hi))) (fun _ hi => hi) _ _ _ vc2
    · exact fun v k' hv s a b g vc => hK v k' hv s σ.1 a b g vc
end C2
