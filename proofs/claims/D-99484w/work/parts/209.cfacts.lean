/-! COMPONENT, PURE SIDE: tests, one of some, all of some. -/
/-- room for a test: r is what it tells -/
def TbO (n k mc ms ca za zb ce ze : Nat) (r : Rs (TT × Nat)) : Prop := match r with
  | .inl _ => 60 * (n + 6 - k) + ce ≤ mc ∧ 4500 * (n + 6 - k) + ze ≤ ms
  | .inr x => 60 * (x.2 - k) ≤ mc + ca ∧ 4500 * (x.2 - k) + zb ≤ ms + za
def TbL (n k cx zx mc ms ce ze : Nat) (r : Rs (TT × Nat)) : Prop := match r with
  | .inl _ => cx + 60 * (n + 6 - k) + ce ≤ mc ∧ zx + 4500 * (n + 6 - k) + ze ≤ ms
  | .inr x => cx + 60 * (x.2 - k) + 3 ≤ mc ∧ zx + 4500 * (x.2 - k) + 2564 ≤ ms
/-- P reads what F tells: a test, d deep -/
def TeL (B : Byt) (n tk d ca za zb ce ze : Nat) (P : PTR) (F : Nat → Rs (TT × Nat)) (o : Nat) : Prop := ∀ (mc ms k : Nat) (σ : CS) (K : Nat → CS → Prop) (E : CS → Prop), RdC B n σ k o → gI σ 9 5 = ctx tk → σ.1 + mc ≤ CB → TbO n k mc ms ca za zb ce ze (F k) → (∀ e, F k = .inl e → ErC mc σ E e) → (∀ v k', F k = .inr (v, k') → ∀ σ' q k2, k2 ≤ k' → skp B n k2 = skp B n k' → FrC σ σ' → σ'.1 ≤ σ.1 + mc → RdC B n σ' k2 o → TC tk σ' (newS σ.1 σ'.1) d q v → K (q + 1) σ') → P mc ms σ K E
def faS (B : Byt) (n : Nat) (w : List Nat) (al : Bool) (F : Nat → Rs (TT × Nat)) : Nat → TT → Nat → Rs (TT × Nat)
  | 0, v, k => .inr (v, k)
  | f + 1, v, k => rsB (pPas B n k w) (fun x => match x with
    | none => .inr (v, skp B n k)
    | some q => rsB (F q) (fun r => faS B n w al F f (fun e => bif al then v e && r.1 e else v e || r.1 e) r.2))
def faA (B : Byt) (n : Nat) (w : List Nat) (al : Bool) (F : Nat → Rs (TT × Nat)) (k : Nat) : Rs (TT × Nat) := rsB (F k) (fun r => faS B n w al F (n - r.2 + 1) r.1 r.2)
theorem faS_bot (B : Byt) (n : Nat) (F : Nat → Rs (TT × Nat)) : ∀ f, pBoL B n F f = faS B n andWd true F f
  | 0 => rfl
  | f + 1 => by
    funext v k
    unfold pBoL faS
    rw [faS_bot B n F f]
    rfl
theorem faS_tes (B : Byt) (n : Nat) (F : Nat → Rs (TT × Nat)) : ∀ f, pTeL B n F f = faS B n orWd false (pBot B n F) f
  | 0 => rfl
  | f + 1 => by
    funext v k
    unfold pTeL faS
    rw [faS_tes B n F f]
    rfl
theorem faA_bot (B : Byt) (n : Nat) (F : Nat → Rs (TT × Nat)) : pBot B n F = faA B n andWd true F := by
  funext k
  unfold pBot faA
  simp only [faS_bot]
theorem faA_tes (B : Byt) (n : Nat) (F : Nat → Rs (TT × Nat)) : pTes B n F = faA B n orWd false (pBot B n F) := by
  funext k
  unfold pTes faA
  simp only [faS_tes]
def faL (P : PTR) (id : Nat) (mc ms : Nat) (K : Nat → CS → Prop) (E : CS → Prop) (x1 : Nat) : Nat → Nat → Nat → CS → Prop
  | 0 => fun _ _ _ => False
  | n + 1 => fun cx zx σ => ∃ mc3 ms4 : Nat, (cx + mc3 ≤ mc ∧ zx + ms4 ≤ ms) ∧ (U_X2_passes mc3 ms4 σ id (fun r2 σ1 => (((r2 = 0 → (K x1 σ1)) ∧ (¬ r2 = 0 → (∃ q5, x1 = q5 + 1 ∧ (gK σ1 q5 = some kO10 ∧ (∃ mc8 ms9 : Nat, (cx + mc3 + mc8 ≤ mc ∧ zx + ms4 + ms9 ≤ ms) ∧ (P mc8 ms9 σ1 (fun r7 σ6 => (∃ q10, (gR σ1 q5 0) = q10 + 1 ∧ (∃ q12, r7 = q12 + 1 ∧ (gK σ6 q10 = some kO20 ∧ (∃ mc15 ms16 : Nat, (cx + mc3 + mc8 + mc15 ≤ mc ∧ zx + ms4 + ms9 + ms16 ≤ ms) ∧ (U_J2_add mc15 ms16 σ6 q10 q12 (fun r14 σ13 => (faL P id mc ms K E x1 n (cx + mc3 + mc8 + mc15) (zx + ms4 + ms9 + ms16) σ13)))))))) E)))))))) E)
theorem faL_bot (PA PF : PTR) (mc ms : Nat) (K : Nat → CS → Prop) (E : CS → Prop) (x1 : Nat) : ∀ n, U_X2_both_23 PA PF mc ms K E x1 n = faL PF 1048646 mc ms K E x1 n
  | 0 => rfl
  | n + 1 => by
    unfold U_X2_both_23 faL
    rw [faL_bot PA PF mc ms K E x1 n]
theorem faL_tes (PA PF : PTR) (mc ms : Nat) (K : Nat → CS → Prop) (E : CS → Prop) (x1 : Nat) : ∀ n, U_X2_test_23 PA PF mc ms K E x1 n = faL (fun mc ms σ K E => U_X2_both PA PF mc ms σ K E) 1048644 mc ms K E x1 n
  | 0 => rfl
  | n + 1 => by
    unfold U_X2_test_23 faL
    rw [faL_tes PA PF mc ms K E x1 n]
def faU (P : PTR) (id : Nat) (al : Int32) (mc ms : Nat) (σ : CS) (K : Nat → CS → Prop) (E : CS → Prop) : Prop := (1 ≤ mc ∧ 2 ≤ ms) ∧ (σ.1 < CB ∧ (∀ σ17 : CS, σ17 = nC σ kO10 → (∃ mc20 ms21 : Nat, (1 + mc20 ≤ mc ∧ 2 + ms21 ≤ ms) ∧ (U_X12_init mc20 ms21 σ17 (σ.1) al (fun _ σ18 => (gK σ18 (σ.1) = some kO10 ∧ (∃ mc24 ms25 : Nat, (1 + mc20 + mc24 ≤ mc ∧ 2 + ms21 + ms25 ≤ ms) ∧ (P mc24 ms25 σ18 (fun r23 σ22 => (∃ q26, (gR σ18 (σ.1) 0) = q26 + 1 ∧ (∃ q28, r23 = q28 + 1 ∧ (gK σ22 q26 = some kO20 ∧ (∃ mc31 ms32 : Nat, (1 + mc20 + mc24 + mc31 ≤ mc ∧ 2 + ms21 + ms25 + ms32 ≤ ms) ∧ (U_J2_add mc31 ms32 σ22 q26 q28 (fun r30 σ29 => (∃ n23, faL P id mc ms K E ((σ.1) + 1) n23 (1 + mc20 + mc24 + mc31) (2 + ms21 + ms25 + ms32) σ29)))))))) E))))))))
theorem faU_bot (PA PF : PTR) : (fun mc ms σ K E => U_X2_both PA PF mc ms σ K E) = faU PF 1048646 1 := by
  funext mc ms σ K E
  unfold U_X2_both faU
  simp only [faL_bot]
theorem faU_tes (PA PF : PTR) : (fun mc ms σ K E => U_X2_test PA PF mc ms σ K E) = faU (fun mc ms σ K E => U_X2_both PA PF mc ms σ K E) 1048644 0 := by
  funext mc ms σ K E
  unfold U_X2_test faU
  simp only [faL_tes]
section CF
variable {σ0 σ σ' : CS} {i j k k' n o q x mc ms c m tk d ca za zb ce ze t id : Nat} {B : Byt} {S S' : Nat → Prop} {el : Nat → Nat} {P : PTR} {F : Nat → Rs (TT × Nat)} {w : List Nat} {al : Bool}
theorem pPas_pr {q : Nat} (hk : k ≤ n) (e : pPas B n k w = .inr (some q)) : skp B n k < q ∧ q ≤ n := by
  obtain ⟨h1, rfl⟩ := pPas_some e
  rw [hereW_eq, Bool.and_eq_true] at h1
  exact ⟨wEn_gt (okW_pL h1.1), wEn_le (skp_le hk)⟩
theorem faS_pr (hF : PrA n F) : ∀ f v k u k', k ≤ n → faS B n w al F f v k = .inr (u, k') → k ≤ k' ∧ k' ≤ n
  | 0, v, k, u, k', hk, e => by
    injection e with e
    injection e with e1 e2
    omega
  | f + 1, v, k, u, k', hk, e => by
    have g1 := skp_ge B n k
    have g2 := skp_le (B := B) hk
    unfold faS at e
    obtain ⟨x, h1, e⟩ := rsB_inr e
    cases x with
    | none =>
      injection e with e
      injection e with e1 e2
      omega
    | some q =>
      have p0 := pPas_pr hk h1
      obtain ⟨r, h2, e⟩ := rsB_inr e
      have p1 := hF _ r.1 r.2 p0.2 h2
      have p2 := faS_pr hF f _ r.2 u k' p1.2 e
      omega
theorem faA_pr (hF : PrA n F) : PrA n (faA B n w al F) := by
  intro k v k' hk e
  unfold faA at e
  obtain ⟨r, h1, e⟩ := rsB_inr e
  have p1 := hF _ r.1 r.2 hk h1
  have p2 := faS_pr hF _ _ r.2 v k' p1.2 e
  omega
def FaX (σ : CS) (c m : Nat) (el : Nat → Nat) (al : Bool) (S : Nat → Prop) : Prop := ∃ li ar cap, gK σ c = some kO10 ∧ gR σ c 0 = li + 1 ∧ gI σ c 1 = b1 al ∧ LsX σ li ar cap m el ∧ (c < li ∧ c < ar ∧ li ≠ ar) ∧ (li < σ.1 ∧ ar < σ.1) ∧ (¬ S c ∧ ¬ S li ∧ ¬ S ar)
theorem FaX.fr (h : FaX σ c m el al S) (f : ∀ i, c ≤ i → i < σ.1 → agr σ σ' i) (hz : σ.1 ≤ σ'.1) : FaX σ' c m el al S := by
  obtain ⟨li, ar, cap, h1, h2, h3, h4, h6, h8, h9⟩ := h
  have fc := f c (Nat.le_refl _) (by omega)
  exact ⟨li, ar, cap, by rw [fc.1]; exact h1, by rw [fc.2.2.2]; exact h2, by rw [fc.2.1]; exact h3, h4.fr (f li (by omega) (by omega)) (f ar (by omega) (by omega)), h6, by omega, h9⟩
theorem FaX.more (h : FaX σ c m el al S) (hS : ∀ i, S' i → S i ∨ σ.1 ≤ i) : FaX σ c m el al S' := by
  obtain ⟨li, ar, cap, h1, h2, h3, h4, h6, h8, h9⟩ := h
  have no : ∀ i, i < σ.1 → ¬ S i → ¬ S' i := fun i hi hs hs' => (hS i hs').elim hs (by omega)
  exact ⟨li, ar, cap, h1, h2, h3, h4, h6, h8, no _ (by omega) h9.1, no _ (by omega) h9.2.1, no _ (by omega) h9.2.2⟩
theorem FaX.kind (h : FaX σ c m el al S) : gK σ c = some kO10 := by
  obtain ⟨li, ar, cap, h1, -⟩ := h
  exact h1
theorem FaX.lt (h : FaX σ c m el al S) : c < σ.1 := by
  obtain ⟨li, ar, cap, -, -, -, -, h6, h8, -⟩ := h
  omega
theorem faV_congr {ts ts' : Nat → TT} : ∀ m, (∀ j, j ≤ m → ts j = ts' j) → faV al ts m = faV al ts' m
  | 0, h => h 0 (Nat.le_refl _)
  | m + 1, h => by
    unfold faV
    rw [faV_congr m (fun j hj => h j (by omega)), h (m + 1) (Nat.le_refl _)]
theorem FaX.tc {ts : Nat → TT} (h : FaX σ c (m + 1) el al S) (hm : m + 1 ≤ 2000) (hS : ∀ i, S i → c < i ∧ i < σ.1) (hv : ∀ j, j ≤ m → TC tk σ S d (el j) (ts j)) : TC tk σ (newS c σ.1) (d + 1) c (faV al ts m) := by
  obtain ⟨li, ar, cap, h1, h2, h3, h4, h6, h8, h9⟩ := h
  refine ⟨⟨Nat.le_refl _, by omega⟩, Or.inr (Or.inr (Or.inr ⟨h1, li, m, el, ts, al, h2, h3, h4.c hm ⟨by omega, by omega⟩ ⟨by omega, by omega⟩, fun j hj => ?_, rfl⟩))⟩
  exact TC.fr (fun i _ => agr.refl σ i) (fun i hi => ⟨Nat.le_of_lt (hS i hi).1, (hS i hi).2⟩) _ _ _ (hv j hj)
/-- a test is added -/
theorem cr_faAdd {K : Int32 → CS → Prop} (h : FaX σ c m el al S) (hm : m ≤ 640) (hmc : 1 ≤ mc) (hms : m = 0 ∨ 961 ≤ ms) (hcb : σ.1 + 1 ≤ CB) (hO : ∀ j, j < m → isC "java/lang/Object" σ (el j) ∧ S (el j)) (hx : isC "java/lang/Object" σ x ∧ S x) (hS : ∀ i, S i → i < σ.1)
    (hk : ∀ σ', σ.1 ≤ σ'.1 → σ'.1 ≤ σ.1 + 1 → (∀ i, i < c ∨ CB ≤ i ∨ S i → agr σ σ' i) → FaX σ' c (m + 1) (fu_ el m x) al S → K 1 σ') : ∃ li, gR σ c 0 = li + 1 ∧ gK σ li = some kO20 ∧ li < σ.1 ∧ c < li ∧ U_J2_add mc ms σ li x K := by
  obtain ⟨li, ar, cap, h1, h2, h3, h4, h6, h8, n0, n1, n2⟩ := h
  have hcapp := h4.2.2.2.2.2.1.2
  have neS : ∀ {i t : Nat}, S i → ¬ S t → i ≠ t := fun a b e => b (e ▸ a)
  refine ⟨li, h2, h4.1, h8.1, h6.1, cr_add h4 hm (by omega) h8.1 h8.2 h6.2.2 hcb (fun j hj => (hO j hj).1) hx.1 (by have := hS _ hx.2; omega) (fun j hj => by have := hS _ (hO j hj).2; omega) fun s2 ar2 cap2 z3 z4 fr2 ha2 ls2 => ?_⟩
  have ac2 := fr2 c (Or.inl (by omega)) (by omega) (by omega)
  refine hk s2 z3 z4 (fun i hi => ?_) ⟨li, ar2, cap2, by rw [ac2.1]; exact h1, by rw [ac2.2.2.2]; exact h2, by rw [ac2.2.1]; exact h3, ls2, by omega, by omega, n0, n1, fun z => ?_⟩
  · rcases hi with hi | hi | hi
    · exact fr2 i (Or.inl (by omega)) (by omega) (by omega)
    · exact fr2 i (Or.inr hi) (by omega) (by omega)
    · exact fr2 i (Or.inl (hS i hi)) (neS hi n1) (neS hi n2)
  · have := hS _ z
    rcases ha2 with e | e
    · exact n2 (e ▸ z)
    · omega
theorem pPas_skp {k2 : Nat} (h : skp B n k2 = skp B n k) (w : List Nat) : pPas B n k2 w = pPas B n k w := by unfold pPas; rw [h]
theorem TbL.room {cx zx : Nat} {r : Rs (TT × Nat)} (h : TbL n k cx zx mc ms ce ze r) (hk : k ≤ n) : cx + 3 ≤ mc ∧ zx + 2564 ≤ ms := by
  cases r with
  | inl e =>
    have h : cx + 60 * (n + 6 - k) + ce ≤ mc ∧ zx + 4500 * (n + 6 - k) + ze ≤ ms := h
    omega
  | inr x =>
    have h : cx + 60 * (x.2 - k) + 3 ≤ mc ∧ zx + 4500 * (x.2 - k) + 2564 ≤ ms := h
    omega
theorem cr_faL (hF : TeL B n tk d ca za zb ce ze P F o) (hp : PrA n F) (hca : ca ≤ 50) (hzb : zb ≤ 100) (ht : t < 32) (hid : id = CB + 16 + 2 * t) (hw : kTxt.getD t [] = w) {K : Nat → CS → Prop} {E : CS → Prop} {k0 : Nat} (hc0 : 1296 ≤ c) (hcb : σ0.1 + mc ≤ CB) (hc : c = σ0.1) :
    ∀ (f G m k k2 cx zx : Nat) (σ : CS) (el : Nat → Nat) (ts : Nat → TT) (S : Nat → Prop), n + 1 ≤ f + k → f + 1 ≤ G → k ≤ n → k2 ≤ k → skp B n k2 = skp B n k → RdC B n σ k2 o → gI σ 9 5 = ctx tk → FrC σ0 σ → σ.1 ≤ σ0.1 + cx → FaX σ c (m + 1) el al S → (∀ i, S i → c < i ∧ i < σ.1) → (∀ j, j ≤ m → TC tk σ S d (el j) (ts j)) → k0 + 2 * m + 1 ≤ k →
      TbL n k cx zx mc ms ce ze (faS B n w al F f (faV al ts m) k) →
      (∀ e, faS B n w al F f (faV al ts m) k = .inl e → ErC mc σ0 E e) →
      (∀ v k', faS B n w al F f (faV al ts m) k = .inr (v, k') → ∀ σ' k2, k2 ≤ k' → skp B n k2 = skp B n k' → FrC σ0 σ' → σ'.1 ≤ σ0.1 + mc → RdC B n σ' k2 o → TC tk σ' (newS σ0.1 σ'.1) (d + 1) c v → K (c + 1) σ') →
      faL P id mc ms K E (c + 1) G cx zx σ := by
  intro f
  induction f with
  | zero => intro G m k k2 cx zx σ el ts S hfk hG hkn; omega
  | succ f ih =>
    intro G m k k2 cx zx σ el ts S hfk hG hkn hk2 hsk h h5 f0 hz hfa hS hv hk0 hb hE hK
    obtain ⟨G, rfl⟩ : ∃ G', G = G' + 1 := ⟨G - 1, by omega⟩
    have hn := h.nn
    have hsz := h.sz
    have hge := skp_ge B n k
    obtain ⟨hr1, hr2⟩ := hb.room hkn
    have e0 : faS B n w al F (f + 1) (faV al ts m) k = rsB (pPas B n k w) (fun x => match x with
      | none => .inr (faV al ts m, skp B n k)
      | some q => rsB (F q) (fun r => faS B n w al F f (fun e => bif al then faV al ts m e && r.1 e else faV al ts m e || r.1 e) r.2)) := rfl
    unfold faL
    refine ⟨3, 2564, ⟨by omega, by omega⟩, cr_passes h (by omega) (by omega) (by omega) ht hid hw (fun e he => ?_) (fun q hq _ _ _ s fs zs gs _ => ?_) (fun hq s k3 hk3 hk4 hk5 fs zs gs => ?_)⟩
    · rw [pPas_skp hsk] at he
      rw [he] at e0
      rw [e0] at hE
      exact (hE e rfl).go f0 (by omega)
    · rw [pPas_skp hsk] at hq
      have p0 := pPas_pr hkn hq
      rw [hq] at e0
      have e0 : faS B n w al F (f + 1) (faV al ts m) k = rsB (F q) (fun r => faS B n w al F f (fun e => bif al then faV al ts m e && r.1 e else faV al ts m e || r.1 e) r.2) := e0
      have fs1 := fs.1
      have ag : ∀ i, c ≤ i → i < σ.1 → agr σ s i := fun i h1 h2 => fs.agr (Or.inl h2) (by omega) (by omega)
      have hfa1 := hfa.fr ag fs1
      have c1 := ctx_fr h5 fs hsz.1
      refine br_f (by decide) ⟨c, rfl, hfa1.kind, ?_⟩
      cases hFq : F q with
      | inl e =>
        rw [hFq] at e0
        have e0 : faS B n w al F (f + 1) (faV al ts m) k = .inl e := e0
        rw [e0] at hb hE
        have hb : cx + 60 * (n + 6 - k) + ce ≤ mc ∧ zx + 4500 * (n + 6 - k) + ze ≤ ms := hb
        refine ⟨60 * (n + 6 - q) + ce, 4500 * (n + 6 - q) + ze, ⟨by omega, by omega⟩, hF _ _ q s _ _ gs c1 (by omega) ?_ (fun e' he' => ?_) (fun v k' hv' => ?_)⟩
        · rw [hFq]; exact ⟨Nat.le_refl _, Nat.le_refl _⟩
        · rw [hFq] at he'; injection he' with he'; subst he'
          exact (hE _ rfl).go (f0.trans fs) (by omega)
        · rw [hFq] at hv'; cases hv'
      | inr r =>
        obtain ⟨v1, k1⟩ := r
        rw [hFq] at e0
        have p1 := hp _ v1 k1 p0.2 hFq
        have ev : (fun e => bif al then faV al ts m e && v1 e else faV al ts m e || v1 e) = faV al (fu_ ts (m + 1) v1) (m + 1) := by
          show _ = fun e => bif al then faV al (fu_ ts (m + 1) v1) m e && fu_ ts (m + 1) v1 (m + 1) e else faV al (fu_ ts (m + 1) v1) m e || fu_ ts (m + 1) v1 (m + 1) e
          rw [fu_same, faV_congr m (fun j hj => (fu_ne (by omega) : fu_ ts (m + 1) v1 j = ts j))]
        have ec : faS B n w al F (f + 1) (faV al ts m) k = faS B n w al F f (faV al (fu_ ts (m + 1) v1) (m + 1)) k1 := by
          rw [e0, ← ev]; rfl
        rw [ec] at hb hE hK
        have hb' : TbL n k1 (cx + 3 + (60 * (k1 - q) - ca) + 1) (zx + 2564 + (4500 * (k1 - q) + zb - za) + 961) mc ms ce ze (faS B n w al F f (faV al (fu_ ts (m + 1) v1) (m + 1)) k1) := by
          cases hX : faS B n w al F f (faV al (fu_ ts (m + 1) v1) (m + 1)) k1 with
          | inl e =>
            rw [hX] at hb
            have hb : cx + 60 * (n + 6 - k) + ce ≤ mc ∧ zx + 4500 * (n + 6 - k) + ze ≤ ms := hb
            show (cx + 3 + (60 * (k1 - q) - ca) + 1) + 60 * (n + 6 - k1) + ce ≤ mc ∧ (zx + 2564 + (4500 * (k1 - q) + zb - za) + 961) + 4500 * (n + 6 - k1) + ze ≤ ms
            omega
          | inr x =>
            have hpr := (faS_pr hp f _ k1 x.1 x.2 p1.2 hX).1
            rw [hX] at hb
            have hb : cx + 60 * (x.2 - k) + 3 ≤ mc ∧ zx + 4500 * (x.2 - k) + 2564 ≤ ms := hb
            show (cx + 3 + (60 * (k1 - q) - ca) + 1) + 60 * (x.2 - k1) + 3 ≤ mc ∧ (zx + 2564 + (4500 * (k1 - q) + zb - za) + 961) + 4500 * (x.2 - k1) + 2564 ≤ ms
            omega
        have hr' := hb'.room p1.2
        refine ⟨60 * (k1 - q) - ca, 4500 * (k1 - q) + zb - za, ⟨by omega, by omega⟩, hF _ _ q s _ _ gs c1 (by omega) ?_ (fun e' he' => ?_) (fun v k' hv' u y k3 hk3 hk4 fu zu gu vu => ?_)⟩
        · rw [hFq]
          show 60 * (k1 - q) ≤ _ ∧ 4500 * (k1 - q) + zb ≤ _
          omega
        · rw [hFq] at he'; cases he'
        · rw [hFq] at hv'
          injection hv' with hv'
          injection hv' with e1 e2
          subst e1 e2
          have fst : FrC σ u := fs.trans fu
          have fu1 := fu.1
          have agu : ∀ i, c ≤ i → i < s.1 → agr s u i := fun i h1 h2 => fu.agr (Or.inl h2) (by omega) (by omega)
          have hfa2 : FaX u c (m + 1) el al (fun i => S i ∨ newS s.1 u.1 i) := (hfa1.more (S' := fun i => S i ∨ newS s.1 u.1 i) (fun i hi => hi.imp (fun y => y) (fun z => z.1))).fr agu fu1
          have hv1 : ∀ j, j ≤ m → TC tk u (fun i => S i ∨ newS s.1 u.1 i) d (el j) (ts j) := fun j hj => TC.fr (fun i hi => (ag i (by have := hS i hi; omega) (hS i hi).2).trans (agu i (by have := hS i hi; omega) (by have := hS i hi; omega))) (fun _ hi => Or.inl hi) _ _ _ (hv j hj)
          have vu' : TC tk u (fun i => S i ∨ newS s.1 u.1 i) d y v1 := TC.fr (fun i _ => agr.refl u i) (fun _ hi => Or.inr hi) _ _ _ vu
          have hS1 : ∀ i, (S i ∨ newS s.1 u.1 i) → c < i ∧ i < u.1 := fun i hi => by
            rcases hi with hi | hi
            · have := hS i hi; omega
            · have := hi.1; have := hi.2; have := hfa.lt; omega
          obtain ⟨li, l1, l2, l3, l4, l5⟩ := cr_faAdd (K := fun r14 σ13 => faL P id mc ms K E (c + 1) G (cx + 3 + (60 * (k1 - q) - ca) + 1) (zx + 2564 + (4500 * (k1 - q) + zb - za) + 961) σ13) (mc := 1) (ms := 961) (x := y) hfa2 (by omega) (by omega) (Or.inr (by omega)) (by omega) (fun j hj => ⟨(hv1 j (by omega)).isO, (hv1 j (by omega)).inS⟩) ⟨vu'.isO, vu'.inS⟩ (fun i hi => (hS1 i hi).2) (fun s2' z2 z3 fr2 fa2 => by
            refine ih G (m + 1) k1 k3 _ _ s2' (fu_ el (m + 1) y) (fu_ ts (m + 1) v1) (fun i => S i ∨ newS s.1 u.1 i) (by omega) (by omega) p1.2 hk3 hk4 (gu.agr (fun i hi => fr2 i (by omega)) z2 (by omega)) ?_ ((f0.trans fst).of_agr (fun i hi => fr2 i (by omega)) z2) (by omega) fa2 (fun i hi => by have := hS1 i hi; omega) (fun j hj => ?_) (by omega) hb' hE hK
            · rw [(fr2 9 (by omega)).2.1]; exact ctx_fr c1 fu (by omega)
            · by_cases ej : j = m + 1
              · subst ej
                rw [fu_same, fu_same]
                exact TC.fr (fun i hi => fr2 i (Or.inr (Or.inr hi))) (fun _ hi => hi) _ _ _ vu'
              · rw [fu_ne ej, fu_ne ej]
                exact TC.fr (fun i hi => fr2 i (Or.inr (Or.inr hi))) (fun _ hi => hi) _ _ _ (hv1 j (by omega)))
          refine ⟨li, ?_, y, rfl, l2, 1, 961, ⟨by omega, by omega⟩, l5⟩
          rw [← (agu c (Nat.le_refl _) hfa1.lt).2.2.2]; exact l1
    · rw [pPas_skp hsk] at hq
      rw [hq] at e0
      have e0 : faS B n w al F (f + 1) (faV al ts m) k = .inr (faV al ts m, skp B n k) := e0
      have ag : ∀ i, c ≤ i → i < σ.1 → agr σ s i := fun i h1 h2 => fs.agr (Or.inl h2) (by omega) (by omega)
      have fs1 := fs.1
      refine br_t rfl (hK _ _ e0 s k3 (by rw [← hsk]; exact hk4) (by rw [hk5, hsk, skp_idem]) (f0.trans fs) (by omega) gs ?_)
      rw [← hc]
      exact (hfa.fr ag fs1).tc (by omega) (fun i hi => by have := hS i hi; omega) (fun j hj => TC.fr (fun i hi => ag i (by have := hS i hi; omega) (hS i hi).2) (fun _ hi => hi) _ _ _ (hv j hj))
theorem cr_faInit {K : Unit → CS → Prop} (hc : gK σ c = some kO10) (hcl : c < σ.1) (hmc : 2 ≤ mc) (hms : 5 ≤ ms) (hcb : σ.1 + 2 ≤ CB) (el : Nat → Nat)
    (hk : ∀ σ', σ'.1 = σ.1 + 2 → (∀ i, i < σ.1 ∨ CB ≤ i → i ≠ c → agr σ σ' i) → FaX σ' c 0 el al (fun _ => False) → K () σ') : U_X12_init mc ms σ c (b1 al) K := by
  refine ⟨⟨by omega, by omega⟩, by omega, st_ ⟨1, 2, ⟨by omega, by omega⟩, ?_⟩⟩
  obtain ⟨s1, hs1⟩ : ∃ s1, s1 = nC σ kO20 := ⟨_, rfl⟩
  rw [← hs1]
  have z1 : s1.1 = σ.1 + 1 := by rw [hs1]; rfl
  have a1 : ∀ i, i ≠ σ.1 → agr σ s1 i := fun i hi => by rw [hs1]; exact (agr.refl σ i).nC hi
  refine cr_lsInit (c0 := 2) rfl (by omega) (by omega) (by rw [hs1]; exact gK_n) (by omega) (by rw [hs1]; exact gI_n) (by omega) (by omega) (by omega) el fun s2 z2 f2 l2 => ?_
  have k2 : gK s2 c = some kO10 := by rw [(f2 c (Or.inl (by omega)) (by omega)).1, (a1 c (by omega)).1]; exact hc
  refine ⟨by omega, k2, st_ ⟨by omega, k2, nar_bb al, st_ ?_⟩⟩
  have aL : ∀ i, i ≠ c → agr s2 (wI (wR s2 c 0 (σ.1 + 1)) c 1 (b1 al)) i := fun i hi => ((agr.refl s2 i).wR hi).wI hi
  refine hk _ (by show s2.1 = _; omega) (fun i hi hi2 => ?_) ⟨σ.1, s1.1, 2, k2, gR_ws, gI_ws, l2.fr (aL _ (by omega)) (aL _ (by omega)), by omega, by show σ.1 < s2.1 ∧ s1.1 < s2.1; omega, id, id, id⟩
  exact ((a1 i (by omega)).trans (f2 i (by omega) (by omega))).trans (aL i hi2)
theorem cr_faU (hF : TeL B n tk d ca za zb ce ze P F o) (hp : PrA n F) (hca : ca ≤ 50) (hca10 : 10 ≤ ca) (hzb : zb ≤ 50) (hza : za ≤ 2600) (ht : t < 32) (hid : id = CB + 16 + 2 * t) (hw : kTxt.getD t [] = w) {x : Int32} (hx : x = b1 al) {zb' : Nat} (hzz : zb + 2571 ≤ zb' + za) : TeL B n tk (d + 1) (ca - 10) 0 zb' (ce + 10) (ze + 100) (faU P id x) (faA B n w al F) o := by
  subst hx
  intro mc ms k σ K E h h5 hcb hb hE hK
  have hsz := h.sz
  have hkn := h.kn
  have hn := h.nn
  unfold faA at hb hE hK
  -- room for the first
  have go : ∀ (mA msA : Nat), 1 + 2 + mA ≤ mc → 2 + 5 + msA ≤ ms → TbO n k mA msA ca za zb ce ze (F k) → (∀ v1 k1, F k = .inr (v1, k1) → TbL n k1 (1 + 2 + mA + 1) (2 + 5 + msA + 0) mc ms ce ze (faS B n w al F (n - k1 + 1) v1 k1)) → faU P id (b1 al) mc ms σ K E := by
    intro mA msA hA1 hA2 hTb hTl
    refine ⟨⟨by omega, by omega⟩, by omega, st_ ⟨2, 5, ⟨by omega, by omega⟩, ?_⟩⟩
    obtain ⟨t0, ht0⟩ : ∃ t0, t0 = nC σ kO10 := ⟨_, rfl⟩
    rw [← ht0]
    have z0 : t0.1 = σ.1 + 1 := by rw [ht0]; rfl
    have a0 : ∀ i, i ≠ σ.1 → agr σ t0 i := fun i hi => by rw [ht0]; exact (agr.refl σ i).nC hi
    refine cr_faInit (by rw [ht0]; exact gK_n) (by omega) (by omega) (by omega) (by omega) (fun _ => 0) fun t1 z1 f1 fa1 => ?_
    have fs : FrS σ t1 := ⟨by omega, fun i hi => (a0 i (by omega)).trans (f1 i (by omega) (by omega))⟩
    have g1 : RdC B n t1 k o := h.frS fs (by omega)
    have c1 : gI t1 9 5 = ctx tk := ctx_fr h5 fs.c hsz.1
    refine ⟨fa1.kind, mA, msA, ⟨by omega, by omega⟩, hF _ _ k t1 _ _ g1 c1 (by omega) hTb (fun e he => ?_) (fun v1 k1 hv t2 q k3 hk3 hk4 f2 z2 g2 vc2 => ?_)⟩
    · rw [he] at hE
      exact (hE e rfl).go fs.c (by omega)
    · have p1 := hp _ v1 k1 hkn hv
      have hTl := hTl v1 k1 hv
      have hrm := hTl.room p1.2
      rw [hv] at hE hK
      have f2' := f2.1
      have ag : ∀ i, σ.1 ≤ i → i < t1.1 → agr t1 t2 i := fun i h1 h2 => f2.agr (Or.inl h2) (by omega) (by omega)
      have fa2 : FaX t2 σ.1 0 (fun _ => 0) al (newS t1.1 t2.1) := (fa1.more (S' := newS t1.1 t2.1) (fun i hi => Or.inr hi.1)).fr ag f2'
      obtain ⟨li, l1, l2, l3, l4, l5⟩ := cr_faAdd (K := fun r30 σ29 => ∃ n23, faL P id mc ms K E (σ.1 + 1) n23 (1 + 2 + mA + 1) (2 + 5 + msA + 0) σ29) (mc := 1) (ms := 0) (x := q) fa2 (by omega) (by omega) (Or.inl rfl) (by omega) (fun j hj => absurd hj (by omega)) ⟨vc2.isO, vc2.inS⟩ (fun i hi => hi.2) (fun t3 z3 z4 fr3 fa3 => by
        refine ⟨n - k1 + 2, cr_faL (σ0 := σ) (k0 := k) hF hp hca (by omega) ht hid hw hsz.1 hcb rfl (n - k1 + 1) _ 0 k1 k3 _ _ t3 _ (fun _ => v1) (newS t1.1 t2.1) (by omega) (by omega) p1.2 hk3 hk4 (g2.agr (fun i hi => fr3 i (by omega)) z3 (by omega)) ?_ ((fs.c.trans f2).of_agr (fun i hi => fr3 i (by omega)) z3) (by omega) fa3 (fun i hi => by have := hi.1; have := hi.2; omega) (fun j hj => ?_) (by omega) hTl hE ?_⟩
        · rw [(fr3 9 (by omega)).2.1]; exact ctx_fr c1 f2 (by omega)
        · obtain rfl : j = 0 := by omega
          rw [fu_same]
          exact TC.fr (fun i hi => fr3 i (Or.inr (Or.inr hi))) (fun _ hi => hi) _ _ _ vc2
        · exact fun v k' hv s k4 e1 e2 a b g vc => hK v k' hv s σ.1 k4 e1 e2 a b g vc)
      refine ⟨li, ?_, q, rfl, l2, 1, 0, ⟨by omega, by omega⟩, l5⟩
      rw [← (ag σ.1 (Nat.le_refl _) (by omega)).2.2.2]; exact l1
  cases hFk : F k with
  | inl e =>
    rw [hFk] at hb
    have hb : 60 * (n + 6 - k) + (ce + 10) ≤ mc ∧ 4500 * (n + 6 - k) + (ze + 100) ≤ ms := hb
    refine go (60 * (n + 6 - k) + ce) (4500 * (n + 6 - k) + ze) (by omega) (by omega) (by rw [hFk]; exact ⟨Nat.le_refl _, Nat.le_refl _⟩) (fun v1 k1 hv => ?_)
    rw [hFk] at hv; cases hv
  | inr r =>
    obtain ⟨v1, k1⟩ := r
    have p1 := hp _ v1 k1 hkn hFk
    rw [hFk, rsB_r] at hb
    have hTl : TbL n k1 (1 + 2 + (60 * (k1 - k) - ca) + 1) (2 + 5 + (4500 * (k1 - k) + zb - za) + 0) mc ms ce ze (faS B n w al F (n - k1 + 1) v1 k1) := by
      cases hX : faS B n w al F (n - k1 + 1) v1 k1 with
      | inl e =>
        rw [hX] at hb
        have hb : 60 * (n + 6 - k) + (ce + 10) ≤ mc ∧ 4500 * (n + 6 - k) + (ze + 100) ≤ ms := hb
        show (1 + 2 + (60 * (k1 - k) - ca) + 1) + 60 * (n + 6 - k1) + ce ≤ mc ∧ (2 + 5 + (4500 * (k1 - k) + zb - za) + 0) + 4500 * (n + 6 - k1) + ze ≤ ms
        omega
      | inr x =>
        have hpr := (faS_pr hp _ _ k1 x.1 x.2 p1.2 hX).1
        rw [hX] at hb
        have hb : 60 * (x.2 - k) ≤ mc + (ca - 10) ∧ 4500 * (x.2 - k) + zb' ≤ ms + 0 := hb
        show (1 + 2 + (60 * (k1 - k) - ca) + 1) + 60 * (x.2 - k1) + 3 ≤ mc ∧ (2 + 5 + (4500 * (k1 - k) + zb - za) + 0) + 4500 * (x.2 - k1) + 2564 ≤ ms
        omega
    have hrm := hTl.room p1.2
    refine go (60 * (k1 - k) - ca) (4500 * (k1 - k) + zb - za) (by omega) (by omega) ?_ (fun v2 k2 hv => ?_)
    · rw [hFk]
      show 60 * (k1 - k) ≤ _ ∧ 4500 * (k1 - k) + zb ≤ _
      omega
    · rw [hFk] at hv
      injection hv with hv
      injection hv with e1 e2
      subst e1 e2
      exact hTl
end CF
