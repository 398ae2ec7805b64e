/-! COMPONENT, PURE SIDE: texts. -/
theorem ch_I : ∀ c, c < 128 → vp_nar .char ((Int32.toUInt32 (nI c) % 65536).toInt32) = nI c ∧ nI c ≤ (255 : Int32) ∧ vp_nar .byte ((Int32.toInt8 (nI c)).toInt32) = nI c ∧ nI c &&& 255 = nI c := by decide +kernel
theorem sB_lt {c : Nat} (h : c < 128) : sB c = nI c := if_pos h
theorem pL_lt {c : Nat} (h : pL c = true) : c < 128 ∧ 96 < c := by
  simp only [pL, decide_eq_true_eq] at h; omega
def newS (a b : Nat) : Nat → Prop := fun i => a ≤ i ∧ i < b
def hsh (w : List Nat) : Int32 := w.foldl (fun h c => 31 * h + nI c) 0
def WdC (σ : CS) (a s : Nat) (w : List Nat) : Prop := StrC σ (newS a σ.1) s w ∧ gI σ s 2 = 0 ∧ gI σ s 3 = 0
section CW
variable {σ0 σ σ' : CS} {i j k n o q x y L mc ms p a : Nat} {B : Byt} {S S' : Nat → Prop} {w w' : List Nat}
theorem cr_comp23 {K : Int32 → CS → Prop} {c : Nat → Nat} (hL : L ≤ 1600) (hxy : x ≠ y) (hy : y < CB) : ∀ (d f i : Nat) (σ : CS), L - i = d → d < f → i ≤ L → gK σ x = some (.inr (3, L)) → gK σ y = some (.inr (1, L)) → (∀ j, j < L → c j < 128 ∧ gI σ x j = nI (c j)) → (∀ j, j < i → gI σ y j = nI (c j)) →
    (∀ σ', (∀ b, b ≠ y → agr σ σ' b) → σ'.1 = σ.1 → gK σ' y = gK σ y → (∀ j, j < L → gI σ' y j = nI (c j)) → K (nI L) σ') → U_J7_compress_2_3 K x y (nI L) f (nI i) (nI i) (nI i) σ := by
  intro d
  induction d with
  | zero =>
    intro f i σ hd hf hi hx hyk hc hdo hk
    obtain ⟨f, rfl⟩ : ∃ f', f = f' + 1 := ⟨f - 1, by omega⟩
    unfold U_J7_compress_2_3
    exact br_t (nI_le (by omega) (by omega)) (hk σ (fun b _ => agr.refl σ b) rfl rfl (fun j hj => hdo j (by omega)))
  | succ d ih =>
    intro f i σ hd hf hi hx hyk hc hdo hk
    obtain ⟨f, rfl⟩ : ∃ f', f = f' + 1 := ⟨f - 1, by omega⟩
    obtain ⟨c1, c2⟩ := hc i (by omega)
    obtain ⟨g1, g2, g3, -⟩ := ch_I _ c1
    unfold U_J7_compress_2_3
    refine br_f (nI_ge (by omega) (by omega)) ⟨gKN hx, ?_, ?_⟩
    · rw [gN_of hx]; exact vi_ (by omega) (by omega)
    rw [nI_clamp (by omega), c2]
    refine br_t g2 ⟨hy, gKN hyk, ?_, st_ ?_⟩
    · rw [gN_of hyk]; exact vi_ (by omega) (by omega)
    rw [g3, nI_1]
    refine ih f (i + 1) _ (by omega) (by omega) (by omega) hx hyk (fun j hj => ?_) (fun j hj => ?_) (fun s f1 f2 f3 f4 => hk s (fun b hb => ((agr.refl σ b).wI hb).trans (f1 b hb)) f2 f3 f4)
    · rw [gI_wi hxy]; exact hc j hj
    · by_cases z : j = i
      · subst z; exact gI_ws
      · rw [gI_wn (by omega)]; exact hdo j (by omega)
theorem cr_valueOf {K : Nat → CS → Prop} {c : Nat → Nat} (hx : gK σ x = some (.inr (3, L))) (hL : 0 < L) (hL2 : L ≤ 1600) (hc : ∀ j, j < L → c j < 128 ∧ gI σ x j = nI (c j)) (hm : 2 ≤ mc) (hs : 4 + L ≤ ms) (hcb : σ.1 + 2 ≤ CB) (hx1 : x < σ.1)
    (hk : ∀ σ', FrS σ σ' → σ'.1 = σ.1 + 2 → gK σ' σ.1 = some kO21 → gI σ' σ.1 1 = 0 → gI σ' σ.1 2 = 0 → gI σ' σ.1 3 = 0 → gR σ' σ.1 0 = σ.1 + 1 + 1 → gK σ' (σ.1 + 1) = some (.inr (1, L)) → (∀ j, j < L → gI σ' (σ.1 + 1) j = nI (c j)) → K (σ.1 + 1) σ') : U_J6_valueOf mc ms σ x K := by
  refine ⟨⟨by omega, by omega⟩, by omega, st_ ⟨mc - 1, ms - 4, ⟨by omega, by omega⟩, ?_⟩⟩
  obtain ⟨s1, hs1⟩ : ∃ s1, s1 = nC σ kO21 := ⟨_, rfl⟩
  rw [← hs1]
  have z1 : s1.1 = σ.1 + 1 := by rw [hs1]; rfl
  have a1 : ∀ i, i ≠ σ.1 → agr σ s1 i := fun i hi => by rw [hs1]; exact (agr.refl σ i).nC hi
  have n1 : gK s1 σ.1 = some kO21 := by rw [hs1]; exact gK_n
  have i1 : ∀ b, gI s1 σ.1 b = 0 := fun b => by rw [hs1]; exact gI_n
  have x1 : gK s1 x = some (.inr (3, L)) := by rw [(a1 x (by omega)).1]; exact hx
  refine ⟨gKN x1, mc - 1, ms - 4, ⟨by omega, by omega⟩, ?_⟩
  rw [gN_of x1, show Int32.ofNat L = nI L from rfl]
  refine bn_t (nI_ne0 hL (by omega)) ⟨mc - 1, ms - 4, ⟨by omega, by omega⟩, nI_pos (by omega), ?_⟩
  rw [nI_clamp (by omega)]
  refine ⟨by omega, ⟨by omega, by omega⟩, by omega, st_ ?_⟩
  obtain ⟨s2, hs2⟩ : ∃ s2, s2 = nC s1 (.inr (1, L)) := ⟨_, rfl⟩
  rw [← hs2]
  have z2 : s2.1 = σ.1 + 2 := by rw [hs2]; show s1.1 + 1 = _; omega
  have a2 : ∀ i, i ≠ σ.1 + 1 → agr s1 s2 i := fun i hi => by rw [hs2]; exact (agr.refl s1 i).nC (by omega)
  have n2 : gK s2 (σ.1 + 1) = some (.inr (1, L)) := by rw [hs2, ← z1]; exact gK_n
  rw [z1]
  have x2 : gK s2 x = some (.inr (3, L)) := by rw [(a2 x (by omega)).1]; exact x1
  refine ⟨L + 1, cr_comp23 (c := c) hL2 (by omega) (by omega) L (L + 1) 0 s2 rfl (by omega) (by omega) x2 n2 (fun j hj => ?_) (fun j hj => absurd hj (by omega)) (fun s3 f1 f2 f3 f4 => br_t rfl ⟨σ.1 + 1, rfl, ?_⟩)⟩
  · rw [(a2 x (by omega)).2.1, (a1 x (by omega)).2.1]; exact hc j hj
  have n3 : gK s3 (σ.1 + 1) = some (.inr (1, L)) := f3.trans n2
  refine ⟨gKN n3, ?_⟩
  rw [gN_of n3, show Int32.ofNat L = nI L from rfl, Int32.sub_self, show ((Int32.toInt8 (((0 : Int32).toUInt32 >>> (Int32.toUInt32 31 &&& Int32.toUInt32 31)).toInt32)).toInt32) = 0 by decide]
  have k3 : gK s3 σ.1 = some kO21 := by rw [(f1 σ.1 (by omega)).1, (a2 σ.1 (by omega)).1]; exact n1
  have i3 : ∀ b, gI s3 σ.1 b = 0 := fun b => by rw [(f1 σ.1 (by omega)).2.1, (a2 σ.1 (by omega)).2.1]; exact i1 b
  refine ⟨rfl, by omega, k3, ⟨rfl, rfl⟩, st_ ⟨by omega, k3, st_ ?_⟩⟩
  refine hk _ ⟨by show σ.1 ≤ s3.1; omega, fun i hi => ?_⟩ (by show s3.1 = _; omega) k3 gI_ws ?_ ?_ gR_ws n3 (fun j hj => ?_)
  · exact ((((a1 i (by omega)).trans (a2 i (by omega))).trans (f1 i (by omega))).wI (by omega)).wR (by omega)
  · show gI (wI s3 σ.1 1 0) σ.1 2 = 0
    rw [gI_wn (by omega)]; exact i3 2
  · show gI (wI s3 σ.1 1 0) σ.1 3 = 0
    rw [gI_wn (by omega)]; exact i3 3
  · show gI (wI s3 σ.1 1 0) (σ.1 + 1) j = _
    rw [gI_wn (by omega)]; exact f4 j hj
theorem wd_get (hj : j < q - p) : (wd B p q).getD j 0 = B (p + j) := by
  unfold wd
  simp [List.getD, hj]
theorem cr_w76 {K : Nat → CS → Prop} {E : CS → Prop} {σb : CS} (hpq : p < q) (hq : q ≤ 1280) (hl : ∀ j, p ≤ j → j < q → pL (B j) = true) (hm : 3 ≤ mc) (hs : 2564 ≤ ms) (hcb : σb.1 + 3 ≤ CB)
    (hk : ∀ σ', FrS σb σ' → σ'.1 = σb.1 + 3 → WdC σ' σb.1 (σb.1 + 1) (wd B p q) → K (σb.1 + 1 + 1) σ') :
    ∀ (d f i : Nat) (σ : CS), q - i = d → d < f → p ≤ i → i ≤ q → FrS σb σ → σ.1 = σb.1 + 1 → RdC B n σ q o → gI σ 9 3 = nI p → gK σ σb.1 = some (.inr (3, q - p)) → (∀ j, j < i - p → gI σ σb.1 j = nI (B (p + j))) → U_X2_word_76 mc ms K E (σb.1 + 1) f (nI i) 1 (q - p) σ := by
  intro d
  induction d with
  | zero =>
    intro f i σ hd hf hpi hiq hF hz h h3 hy hdo
    obtain ⟨f, rfl⟩ : ∃ f', f = f' + 1 := ⟨f - 1, by omega⟩
    obtain rfl : i = q := by omega
    unfold U_X2_word_76
    rw [h.at_]
    refine br_t (nI_le (by omega) (by omega)) ⟨σb.1, rfl, 2, ms - (i - p), ⟨by omega, by omega⟩, ?_⟩
    refine cr_valueOf (c := fun j => B (p + j)) hy (by omega) (by omega) (fun j hj => ⟨(pL_lt (hl (p + j) (by omega) (by omega))).1, hdo j hj⟩) (by omega) (by omega) (by omega) (by omega) fun s f1 f2 f3 f4 f5 f6 f7 f8 f9 => ?_
    rw [hz] at f3 f4 f5 f6 f7 f8 f9 ⊢
    refine hk s (hF.trans f1) (by omega) ⟨⟨⟨by omega, by omega⟩, f3, f4, ⟨by rw [wd_len]; omega, fun c hc => ?_⟩, σb.1 + 1 + 1, ⟨by omega, by omega⟩, f7, by rw [wd_len]; exact f8, fun j hj => ?_⟩, f5, f6⟩
    · unfold wd at hc
      obtain ⟨t, ht, rfl⟩ := List.mem_map.mp hc
      exact hl _ (by omega) (by have := List.mem_range.mp ht; omega)
    · rw [wd_len] at hj
      rw [wd_get hj]; exact f9 j hj
  | succ d ih =>
    intro f i σ hd hf hpi hiq hF hz h h3 hy hdo
    obtain ⟨f, rfl⟩ : ∃ f', f = f' + 1 := ⟨f - 1, by omega⟩
    have hli := hl i hpi (by omega)
    unfold U_X2_word_76
    rw [h.at_, h3, nI_sub hpi]
    refine br_f (nI_ge (by omega) (by omega)) ⟨vi_ (by omega) (by omega), σb.1, rfl, by omega, gKN hy, ?_, st_ ?_⟩
    · rw [gN_of hy]; exact vi_ (by omega) (by omega)
    rw [nI_clamp (by omega), nI_clamp (by omega), h.tp i (by omega), sB_lt (pL_lt hli).1, (ch_I _ (pL_lt hli).1).1, nI_1]
    have hb := h.sz
    have hne : ∀ t, t ≤ 100 → t ≠ σb.1 := fun t ht => by
      intro e
      omega
    refine ih f (i + 1) _ (by omega) (by omega) (by omega) (by omega) (hF.wI ⟨Nat.le_refl _, by omega⟩) hz ?_ ?_ hy (fun j hj => ?_)
    · refine ⟨hb, h.2.1, ?_, ?_, ?_, fun t ht => ?_, fun t ht => ?_⟩
      · rw [gI_wi (hne 9 (by omega))]; exact h.en
      · rw [gI_wi (hne 9 (by omega))]; exact h.at_
      · rw [gI_wi (hne 9 (by omega))]; exact h.op
      · rw [gI_wi (hne 8 (by omega))]; exact h.tp t ht
      · have hk := h.ko t ht
        exact ⟨hk.1, by rw [gI_wi (by omega)]; exact hk.2.1, hk.2.2⟩
    · rw [gI_wi (hne 9 (by omega))]; exact h3
    · by_cases z : j = i - p
      · subst z; rw [gI_ws, show p + (i - p) = i by omega]
      · rw [gI_wn (by omega)]; exact hdo j (by omega)
theorem cr_w32 {K : Nat → CS → Prop} {E : CS → Prop} {σ0 : CS} (hpl : pL (bt B n p) = true) (hm : 3 ≤ mc) (hs : 2564 ≤ ms) (hcb : σ0.1 + 3 ≤ CB)
    (hk : ∀ σ' s, FrC σ0 σ' → σ'.1 ≤ σ0.1 + 3 → RdC B n σ' (wEn B n p) o → gI σ' 9 3 = nI p → WdC σ' σ0.1 s (wd B p (wEn B n p)) → K (s + 1) σ') :
    ∀ (d f j : Nat) (σ : CS), wEn B n p - j = d → d < f → p ≤ j → j ≤ wEn B n p → FrC σ0 σ → σ.1 = σ0.1 → RdC B n σ j o → gI σ 9 3 = nI p → U_X2_word_32 mc ms K E f 0 0 σ := by
  have hpn := pL_in hpl
  have hgt := wEn_gt hpl
  have hle := wEn_le (B := B) (n := n) (k := p) (by omega)
  have hall : ∀ j, p ≤ j → j < wEn B n p → pL (bt B n j) = true := fun j h1 h2 => rnE_all (q := fun j => pL (bt B n j)) (n := n) _ p rfl j h1 h2
  have hz : pL (bt B n (wEn B n p)) = false := rnE_false (q := fun j => pL (bt B n j)) (n := n) pL_out _ p rfl
  intro d
  induction d with
  | zero =>
    intro f j σ hd hf hpj hjq hF hz0 h h3
    obtain ⟨f, rfl⟩ : ∃ f', f = f' + 1 := ⟨f - 1, by omega⟩
    obtain rfl : j = wEn B n p := by omega
    have hn := h.nn
    unfold U_X2_word_32
    rw [h.at_]
    refine cr_byte h (by omega) (cr_letter (bt_le h.by_) ?_)
    rw [hz]
    refine br_t rfl ?_
    rw [h.at_, h3, nI_sub hpj, nI_clamp (by omega)]
    refine ⟨nI_pos (by omega), by omega, ⟨by omega, by omega⟩, by omega, st_ ?_⟩
    have h9 : 9 ≠ σ.1 := by have := h.sz; omega
    have e3 : gI (nC σ (.inr (3, wEn B n p - p))) 9 3 = nI p := by rw [((agr.refl σ 9).nC h9).2.1]; exact h3
    rw [e3, Nat.zero_add, Nat.zero_add]
    have hFS : FrS σ (nC σ (.inr (3, wEn B n p - p))) := (FrS.refl σ).nC (by omega)
    refine ⟨wEn B n p - p + 1, cr_w76 (σb := σ) hgt (by omega) (fun i h1 h2 => ?_) hm hs (by omega) (fun s f1 f2 f3 => hk s (σ.1 + 1) (hF.trans f1.c) (by omega) (h.frS f1 (by omega)) ?_ (by rw [← hz0]; exact f3)) (wEn B n p - p) _ p _ rfl (by omega) (by omega) (by omega) hFS rfl (h.frS hFS (by show σ.1 + 1 ≤ CB; omega)) e3 gK_n (fun i hi => absurd hi (by omega))⟩
    · have := hall i h1 h2
      rw [bt_lt (by omega)] at this; exact this
    · rw [(f1.2 9 (Or.inl (by have := h.sz; omega))).2.1]; exact h3
  | succ d ih =>
    intro f j σ hd hf hpj hjq hF hz0 h h3
    obtain ⟨f, rfl⟩ : ∃ f', f = f' + 1 := ⟨f - 1, by omega⟩
    have hn := h.nn
    unfold U_X2_word_32
    rw [h.at_]
    refine cr_byte h (by omega) (cr_letter (bt_le h.by_) ?_)
    rw [hall j hpj (by omega)]
    refine br_f (by decide) (st_ ?_)
    rw [h.at_, nI_1]
    exact ih f (j + 1) _ (by omega) (by omega) (by omega) (by omega) (hF.wI (Or.inl scR_2)) hz0 (h.go (by omega)) ((gI_wn (by omega)).trans h3)
theorem cr_word {K : Nat → CS → Prop} {E : CS → Prop} (h : RdC B n σ k o) (hm : 3 ≤ mc) (hs : 2564 ≤ ms) (hcb : σ.1 + 3 ≤ CB) (hE : ∀ e, pWord B n k = .inl e → ErC mc σ E e)
    (hK : ∀ p q, pWord B n k = .inr (p, q) → k ≤ p → p < q → q ≤ n → ∀ σ' s, FrC σ σ' → σ'.1 ≤ σ.1 + 3 → RdC B n σ' q o → gI σ' 9 3 = nI p → WdC σ' σ.1 s (wd B p q) → K (s + 1) σ') : U_X2_word mc ms σ K E := by
  have hge := skp_ge B n k
  have hle := skp_le (B := B) h.kn
  refine cr_here h fun s f hs0 g => cr_letter (bt_le h.by_) ?_
  unfold pWord okW at hE hK
  cases e : pL (bt B n (skp B n k)) with
  | false =>
    rw [e] at hE
    exact bn_f rfl (cr_wrong (mc := mc) rfl g.at_ ((hE _ (by simp)).go f (by omega)))
  | true =>
    refine bn_t (by decide) (cr_parted (mc := mc) g (fun ha => ?_) (fun ha => st_ ?_))
    · rw [e, ha] at hE
      exact (hE _ (by simp)).go f (by omega)
    · rw [e, ha, Bool.not_false, Bool.and_self, if_pos rfl] at hE hK
      rw [g.at_]
      have hgt := wEn_gt e
      have hwl := wEn_le (B := B) (n := n) (k := skp B n k) hle
      refine ⟨wEn B n (skp B n k) - skp B n k + 1, cr_w32 (σ0 := s) e hm hs (by omega) (fun s1 q f1 f2 f3 f4 f5 => hK _ _ rfl hge hgt hwl s1 q (f.trans f1) (by omega) f3 f4 ?_) _ _ (skp B n k) _ rfl (by omega) (by omega) (by omega) ((FrC.refl s).wI (Or.inl scR_3)) rfl (g.frm _) gI_ws⟩
      rw [← hs0]; exact f5
theorem list_ext0 : ∀ (w w' : List Nat), w.length = w'.length → (∀ j, j < w.length → w.getD j 0 = w'.getD j 0) → w = w'
  | [], [], _, _ => rfl
  | [], _ :: _, h, _ => by cases h
  | _ :: _, [], h, _ => by cases h
  | a :: w, b :: w', h, e => by
    have h0 := e 0 (by simp)
    rw [list_ext0 w w' (by simpa using h) (fun j hj => by have := e (j + 1) (by simpa using hj); simpa using this)]
    simp at h0
    rw [h0]
theorem getD_lt {j : Nat} (h : ∀ c, c ∈ w → pL c = true) (hj : j < w.length) : w.getD j 0 < 128 := by
  have hm : w.getD j 0 ∈ w := by
    rw [List.getD_eq_getElem?_getD, List.getElem?_eq_getElem hj]
    exact List.getElem_mem hj
  exact (pL_lt (h _ hm)).1
theorem cr_eq9 {K : Int32 → CS → Prop} {y y' : Nat} (hlen : w.length = w'.length) (hl : w.length ≤ 1600) (hw : ∀ c, c ∈ w → pL c = true) (hw' : ∀ c, c ∈ w' → pL c = true) (hy : gK σ y = some (.inr (1, w.length))) (hy' : gK σ y' = some (.inr (1, w.length))) (hc : ∀ j, j < w.length → gI σ y j = nI (w.getD j 0)) (hc' : ∀ j, j < w.length → gI σ y' j = nI (w'.getD j 0)) (hk : K (b1 (decide (w = w'))) σ) :
    ∀ (d f i : Nat), w.length - i = d → d < f → i ≤ w.length → (∀ j, j < i → w.getD j 0 = w'.getD j 0) → U_J9_equals_9 K y y' f (nI i) σ := by
  intro d
  induction d with
  | zero =>
    intro f i hd hf hi he
    obtain ⟨f, rfl⟩ : ∃ f', f = f' + 1 := ⟨f - 1, by omega⟩
    unfold U_J9_equals_9
    rw [gN_of hy]
    rw [decide_eq_true (list_ext0 w w' hlen (fun j hj => he j (by omega)))] at hk
    exact ⟨hy, br_t (nI_le (by omega) (by omega)) hk⟩
  | succ d ih =>
    intro f i hd hf hi he
    obtain ⟨f, rfl⟩ : ∃ f', f = f' + 1 := ⟨f - 1, by omega⟩
    unfold U_J9_equals_9
    rw [gN_of hy, gN_of hy', nI_clamp (by omega), hc i (by omega), hc' i (by omega), nI_1]
    refine ⟨hy, br_f (nI_ge (by omega) (by omega)) ⟨hy, vi_ (by omega) (by omega), hy', vi_ (by omega) (by omega), ?_⟩⟩
    have l1 := getD_lt hw (j := i) (by omega)
    have l2 := getD_lt hw' (j := i) (by omega)
    by_cases z : w.getD i 0 = w'.getD i 0
    · refine br_t (by rw [z]) (ih f (i + 1) (by omega) (by omega) (by omega) (fun j hj => ?_))
      by_cases y : j = i
      · subst y; exact z
      · exact he j (by omega)
    · rw [decide_eq_false (fun e => z (by rw [e]))] at hk
      exact br_f (fun e => z ((nI_eq (by omega) (by omega)).mp e)) hk
theorem StrC.inj (h : StrC σ S q w) (h' : StrC σ S' q w') : w = w' := by
  obtain ⟨h1, h2, h3, h4, y, h5, h6, h7, h8⟩ := h
  obtain ⟨g1, g2, g3, g4, y', g5, g6, g7, g8⟩ := h'
  obtain rfl : y = y' := by rw [h6] at g6; omega
  have hl : w.length = w'.length := by
    rw [h7] at g7
    injection g7 with e
    injection e with e
    injection e
  refine list_ext0 w w' hl (fun j hj => ?_)
  have e := (h8 j hj).symm.trans (g8 j (by omega))
  have l1 := getD_lt h4.2 hj
  have l2 := getD_lt g4.2 (j := j) (by omega)
  exact (nI_eq (by omega) (by omega)).mp e
theorem cr_equals {K : Int32 → CS → Prop} {q' : Nat} (h : StrC σ S q w) (h' : StrC σ S' q' w') (hc : q < CB ∨ q' < CB) (hk : K (b1 (decide (w = w'))) σ) : U_J6_equals σ q q' K := by
  refine ⟨hc, ?_⟩
  by_cases e : q = q'
  · subst e
    rw [decide_eq_true (h.inj h')] at hk
    exact bn_f rfl hk
  · obtain ⟨h1, h2, h3, h4, y, h5, h6, h7, h8⟩ := h
    obtain ⟨g1, g2, g3, g4, y', g5, g6, g7, g8⟩ := h'
    refine bn_t e ⟨g2, isC_of g2 rfl (Or.inl rfl), h2, g2, bn_f (h3.trans g3.symm) ⟨h2, g2, y, h6, y', g6, gKN h7, gKN g7, ?_⟩⟩
    rw [gN_of h7, gN_of g7]
    by_cases hl : w.length = w'.length
    · have fin : ∀ r : Bool, K (b1 r) σ → (((b1 r = 0 → K 0 σ) ∧ (¬ b1 r = 0 → K 1 σ))) := by
        intro r hr
        cases r with
        | true => exact br_f (by decide) hr
        | false => exact br_t rfl hr
      refine bn_f (by rw [hl]) ⟨w.length + 1, cr_eq9 (K := fun r6 σ5 => ((r6 = 0 → K 0 σ5) ∧ (¬ r6 = 0 → K 1 σ5))) hl h4.1 h4.2 g4.2 h7 (by rw [hl]; exact g7) h8 (fun j hj => g8 j (by omega)) (fin _ hk) w.length _ 0 rfl (by omega) (by omega) (fun j hj => absurd hj (by omega))⟩
    · rw [decide_eq_false (fun z => hl (by rw [z]))] at hk
      refine bn_t (fun z => hl ((nI_eq (by have := h4.1; omega) (by have := g4.1; omega)).mp z)) (br_t rfl hk)
/-- the constants' texts -/
theorem kTxt_ok : ∀ t, t < 32 → (kTxt.getD t []).length ≤ 1600 ∧ ∀ c, c ∈ kTxt.getD t [] → pL c = true := by decide
theorem strK (hK : KoC σ) {t : Nat} (ht : t < 32) {q : Nat} (hq : q = CB + 16 + 2 * t) : StrC σ (fun i => CB ≤ i) q (kTxt.getD t []) := by
  subst hq
  obtain ⟨a1, a2, a3⟩ := hK (CB + 16 + 2 * t) (by omega)
  obtain ⟨b1, b2, b3⟩ := hK (CB + 17 + 2 * t) (by omega)
  refine ⟨by show CB ≤ _; omega, ?_, ?_, kTxt_ok t ht, CB + 17 + 2 * t, by show CB ≤ _; omega, ?_, ?_, fun j hj => ?_⟩
  · rw [a1]; unfold kLay
    rw [if_neg (by omega), if_neg (by omega), if_neg (by omega), if_neg (by omega), if_pos (by omega)]
  · rw [a2]; unfold kI
    rw [if_pos (by omega), if_neg (by omega)]
  · rw [a3]; unfold kR
    rw [if_neg (by omega), if_pos (by omega), if_pos rfl]
    omega
  · rw [b1]; unfold kLay
    rw [if_neg (by omega), if_neg (by omega), if_neg (by omega), if_neg (by omega), if_neg (by omega), show (CB + 17 + 2 * t - CB - 17) / 2 = t by omega]
  · rw [b2]; unfold kI
    rw [if_neg (by omega), show (CB + 17 + 2 * t - CB - 17) / 2 = t by omega]
    rfl
def tsA (a : Nat) : List (List Nat) := (kArr.getD a []).map (fun t => kTxt.getD t [])
theorem kArr_ok : ∀ a, a < 4 → (kArr.getD a []).length ≤ 100 ∧ ∀ j, j < (kArr.getD a []).length → (kArr.getD a []).getD j 0 < 32 := by decide
theorem cr_find {K : Int32 → CS → Prop} {id : Nat} (hK : KoC σ) (h : StrC σ S q w) (hq : q < CB) (ha : a < 4) (hid : id = CB + a) (hk : K (ixI ((tsA a).findIdx? (fun t => decide (w = t)))) σ) : U_X0_find σ q id K := by
  subst hid
  obtain ⟨a1, a2, a3⟩ := hK (CB + a) (by omega)
  obtain ⟨hl, hlt⟩ := kArr_ok a ha
  have kk : gK σ (CB + a) = some (.inr (8, (kArr.getD a []).length)) := by
    rw [a1]; unfold kLay
    rw [if_neg (by omega), if_pos (by omega), show CB + a - CB = a by omega]
  have kr : ∀ j, gR σ (CB + a) j = CB + 16 + 2 * ((kArr.getD a []).getD j 0) + 1 := fun j => by
    rw [a3]; unfold kR
    rw [if_pos (by omega), show CB + a - CB = a by omega]
  have hlen : (tsA a).length = (kArr.getD a []).length := by simp [tsA]
  have hget : ∀ j (hj : j < (tsA a).length), (tsA a)[j] = kTxt.getD ((kArr.getD a []).getD j 0) [] := fun j hj => by
    have h2 : j < (kArr.getD a []).length := by omega
    have e : (kArr.getD a []).getD j 0 = (kArr.getD a [])[j] := by
      rw [List.getD_eq_getElem?_getD (l := kArr.getD a []) (i := j), List.getElem?_eq_getElem h2]
      rfl
    rw [e]
    exact List.getElem_map _
  have lp : ∀ (d f i : Nat), (kArr.getD a []).length - i = d → d < f → i ≤ (kArr.getD a []).length → (∀ j (hj : j < (tsA a).length), j < i → (tsA a)[j] ≠ w) → U_X0_find_2 K q (CB + a) f (nI i) σ := by
    intro d
    induction d with
    | zero =>
      intro f i hd hf hi hne
      obtain ⟨f, rfl⟩ : ∃ f', f = f' + 1 := ⟨f - 1, by omega⟩
      unfold U_X0_find_2
      have e : (tsA a).findIdx? (fun t => decide (w = t)) = none := by
        rw [List.findIdx?_eq_none_iff]
        intro t ht
        obtain ⟨j, hj, rfl⟩ := List.mem_iff_getElem.mp ht
        exact decide_eq_false (fun z => hne j hj (by omega) z.symm)
      rw [e] at hk
      rw [gN_of kk]
      exact ⟨kk, br_t (nI_le (by omega) (by omega)) hk⟩
    | succ d ih =>
      intro f i hd hf hi hne
      obtain ⟨f, rfl⟩ : ∃ f', f = f' + 1 := ⟨f - 1, by omega⟩
      unfold U_X0_find_2
      rw [gN_of kk]
      have hs := strK hK (hlt i (by omega)) rfl
      refine ⟨kk, br_f (nI_ge (by omega) (by omega)) ⟨kk, vi_ (by omega) (by omega), CB + 16 + 2 * ((kArr.getD a []).getD i 0), ?_, hs.2.1, cr_equals hs h (Or.inr hq) ?_⟩⟩
      · rw [nI_clamp (by omega)]; exact kr i
      · rw [← hget i (by omega)]
        by_cases e : (tsA a)[i]'(by omega) = w
        · rw [decide_eq_true e]
          have e1 : (tsA a).findIdx? (fun t => decide (w = t)) = some i := by
            rw [List.findIdx?_eq_some_iff_getElem]
            exact ⟨by omega, decide_eq_true e.symm, fun j hj z => hne j (by omega) hj (of_decide_eq_true z).symm⟩
          rw [e1] at hk
          exact br_f (by decide) hk
        · rw [decide_eq_false e, nI_1]
          refine br_t rfl (ih f (i + 1) (by omega) (by omega) (by omega) (fun j hj hji => ?_))
          by_cases z : j = i
          · subst z; exact e
          · exact hne j hj (by omega)
  exact ⟨(kArr.getD a []).length + 1, lp _ _ 0 rfl (by omega) (by omega) (fun j hj z => absurd z (by omega))⟩
theorem cr_len {K : Int32 → CS → Prop} (h : StrC σ S q w) (hk : K (nI w.length) σ) : U_J6_length σ q K := by
  obtain ⟨h1, h2, h3, h4, y, h5, h6, h7, h8⟩ := h
  refine ⟨h2, y, h6, gKN h7, h2, h2, ?_⟩
  rw [h3, gN_of h7]
  refine ⟨rfl, ?_⟩
  show K (Int32.ofNat w.length >>> ((0 : Int32) &&& 31)) σ
  rw [shr_0]; exact hk
theorem cr_hash8 {K : Int32 → CS → Prop} {y : Nat} (hl : w.length ≤ 1600) (hw : ∀ c, c ∈ w → pL c = true) (hy : gK σ y = some (.inr (1, w.length))) (hc : ∀ j, j < w.length → gI σ y j = nI (w.getD j 0)) (hk : K (hsh w) σ) :
    ∀ (d f i : Nat), w.length - i = d → d < f → i ≤ w.length → U_J10_signedHashCode_8 K y (nI w.length) f (hsh (w.take i)) (nI i) σ := by
  intro d
  induction d with
  | zero =>
    intro f i hd hf hi
    obtain ⟨f, rfl⟩ : ∃ f', f = f' + 1 := ⟨f - 1, by omega⟩
    unfold U_J10_signedHashCode_8
    rw [List.take_of_length_le (by omega)]
    exact br_t (nI_le (by omega) (by omega)) hk
  | succ d ih =>
    intro f i hd hf hi
    obtain ⟨f, rfl⟩ : ∃ f', f = f' + 1 := ⟨f - 1, by omega⟩
    unfold U_J10_signedHashCode_8
    refine br_f (nI_ge (by omega) (by omega)) ⟨gKN hy, ?_, ?_⟩
    · rw [gN_of hy]; exact vi_ (by omega) (by omega)
    rw [nI_clamp (by omega), hc i (by omega), (ch_I _ (getD_lt hw (by omega))).2.2.2, nI_1]
    have e : 31 * hsh (w.take i) + nI (w.getD i 0) = hsh (w.take (i + 1)) := by
      unfold hsh
      rw [List.take_add_one, List.foldl_append, List.getElem?_eq_getElem (by omega), List.getD_eq_getElem?_getD, List.getElem?_eq_getElem (by omega)]
      rfl
    rw [e]
    exact ih f (i + 1) (by omega) (by omega) (by omega)
/-- its hash is kept -/
def HsC (σ : CS) (q : Nat) (w : List Nat) : Prop := gI σ q 2 = hsh w ∧ (¬ hsh w = 0 ∨ ¬ gI σ q 3 = 0)
theorem cr_hash {K : Int32 → CS → Prop} (h : StrC σ S q w) (h2 : gI σ q 2 = 0) (h3 : gI σ q 3 = 0) (hw : 0 < w.length) (hq : q < CB) (hk : ∀ σ', σ'.1 = σ.1 → (∀ i, i ≠ q → agr σ σ' i) → StrC σ' S q w → HsC σ' q w → K (hsh w) σ') : U_J6_hashCode σ q K := by
  have hstr := h
  obtain ⟨g1, g2, g3, g4, y, g5, g6, g7, g8⟩ := h
  have hyq : y ≠ q := by
    intro e
    rw [e, g2] at g7
    cases g7
  have st : ∀ (jj : Nat) (v : Int32), jj = 2 ∨ jj = 3 → StrC (wI σ q jj v) S q w := fun jj v hj => ⟨g1, g2, by rw [gI_wn (by omega)]; exact g3, g4, y, g5, g6, g7, fun j hj' => by rw [gI_wi hyq]; exact g8 j hj'⟩
  refine ⟨g2, bn_f h2 ⟨g2, bn_f h3 ⟨g2, g2, bn_f g3 (br_f (by decide) ⟨g2, y, g6, gKN g7, ?_⟩)⟩⟩⟩
  have fin : ((¬ hsh w = 0 → (q < CB ∧ (gK σ q = some kO21 ∧ (∀ σ7 : CS, σ7 = wI σ q 2 (hsh w) → (K (hsh w) σ7))))) ∧ (hsh w = 0 → (q < CB ∧ (gK σ q = some kO21 ∧ (∀ σ8 : CS, σ8 = wI σ q 3 1 → (K (hsh w) σ8)))))) :=
    ⟨fun hne => ⟨hq, g2, st_ (hk _ rfl (fun i hi => (agr.refl σ i).wI hi) (st _ _ (Or.inl rfl)) ⟨gI_ws, Or.inl hne⟩)⟩, fun he => ⟨hq, g2, st_ (hk _ rfl (fun i hi => (agr.refl σ i).wI hi) (st _ _ (Or.inr rfl)) ⟨by rw [gI_wn (by omega), h2, he], Or.inr (by rw [gI_ws]; decide)⟩)⟩⟩
  rw [gN_of g7]
  refine br_f (nI_ne0 hw (by have := g4.1; omega)) ?_
  by_cases e : w.length = 1
  · refine br_t (by rw [e]; rfl) ⟨g7, ?_, ?_⟩
    · rw [e]; exact vi_ (i := 0) (by omega) (by omega)
    · rw [cl_0, g8 0 (by omega), (ch_I _ (getD_lt g4.2 (by omega))).2.2.2]
      have e1 : hsh w = nI (w.getD 0 0) := by
        match w, e with
        | [c], _ =>
          show 31 * (0 : Int32) + nI c = nI c
          rw [Int32.mul_zero, Int32.zero_add]
      rw [← e1]
      exact fin
  · refine br_f (fun z => e ((nI_eq (b := 1) (by have := g4.1; omega) (by omega)).mp z)) ⟨g7, br_t rfl ⟨gKN g7, w.length + 1, ?_⟩⟩
    rw [show (0 : Int32) + Int32.ofNat w.length = nI w.length from Int32.zero_add _]
    exact cr_hash8 (K := fun r6 σ5 => ((¬ r6 = 0 → (q < CB ∧ (gK σ5 q = some kO21 ∧ (∀ σ7 : CS, σ7 = wI σ5 q 2 r6 → (K r6 σ7))))) ∧ (r6 = 0 → (q < CB ∧ (gK σ5 q = some kO21 ∧ (∀ σ8 : CS, σ8 = wI σ5 q 3 1 → (K r6 σ8))))))) g4.1 g4.2 g7 g8 fin w.length _ 0 rfl (by omega) (by omega)
theorem cr_hash2 {K : Int32 → CS → Prop} (h : StrC σ S q w) (hh : HsC σ q w) (hk : K (hsh w) σ) : U_J6_hashCode σ q K := by
  obtain ⟨h1, h2⟩ := hh
  refine ⟨h.2.1, ?_⟩
  rw [h1]
  by_cases e : hsh w = 0
  · exact bn_f e ⟨h.2.1, bn_t (h2.resolve_left (fun z => z e)) hk⟩
  · exact bn_t e hk
end CW
