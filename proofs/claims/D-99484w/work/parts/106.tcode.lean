/-! PURE SIDE, the model's reader: codes told, what waits, words of sums. -/
def isBr (x : Int32) : Bool := decide (20 ≤ x) && decide (x ≤ 24)
def opI (x : Int32) : Prop := x = 1 ∨ x = 2 ∨ x = 3 ∨ x = 4
theorem opI.br {x : Int32} (h : opI x) : isBr x = false := by
  rcases h with h | h | h | h <;> subst h <;> decide
theorem T_qIsBracket_law {τ : Sto} {x : Int32} {K : Int32 → Sto → Prop} (hk : K (b1 (isBr x)) τ) : T_qIsBracket τ x K := by
  unfold T_qIsBracket
  by_cases h1 : x < 20
  · refine br_t h1 ?_
    rw [show isBr x = false by simp [isBr, Int32.not_le.mpr h1]] at hk
    exact hk
  · refine br_f h1 ?_
    by_cases h2 : 24 < x
    · refine br_t h2 ?_
      rw [show isBr x = false by simp [isBr, Int32.not_le.mpr h2]] at hk
      exact hk
    · refine br_f h2 ?_
      rw [show isBr x = true by simp [isBr, Int32.not_lt.mp h1, Int32.not_lt.mp h2]] at hk
      exact hk
theorem nI_predlt {a b : Nat} (ha : a < 2 ^ 31) (hb : b < 2 ^ 31) : nI a - 1 < nI b ↔ a ≤ b := by
  cases a with
  | zero =>
    constructor
    · intro _; omega
    · intro _
      rw [Int32.lt_iff_toInt_lt, nI_toInt hb, show (nI 0 - 1 : Int32).toInt = -1 by decide]
      omega
  | succ a => rw [nI_pred, nI_ltI (by omega) hb]; omega
theorem rev_at {pre rest : List Int32} {b : Int32} : (pre ++ b :: rest).reverse.getD rest.length 0 = b := by
  simp [List.getD_eq_getElem?_getD]
section TC
variable {E : Int32 → Prop} {τ0 τ : Sto} {B : Byt} {n k o bs : Nat} {C W : List Int32}
theorem RQg.at_w {pre rest : List Int32} {b : Int32} (h : RQg E τ0 n τ k C W o bs) (e : W = pre ++ b :: rest) : τ.1 94 rest.length = b := by
  rw [h.ww rest.length (by rw [e]; simp; omega), e]
  exact rev_at
theorem T_qCode_law {K : Sto → Prop} (h : RQg E τ0 n τ k C W o bs) (hl : C.length < 1600) (v : Int32) (hk : ∀ τ', RQg E τ0 n τ' k (C ++ [v]) W o bs → K τ') : T_qCode τ v K := by
  unfold T_qCode
  rw [h.cl]
  refine ⟨vi_ (by omega) (by omega), st_ (st_ ?_)⟩
  rw [nI_clamp (by omega), sI_neI (by simp), h.cl, nI_1]
  exact hk _ (h.code v)
theorem T_qOpens_law {K : Sto → Prop} (h : RQg E τ0 n τ k C W o bs) (hl : W.length < 1700) (ho : o ≤ 6) {v x2 : Int32} {pl : Nat} (e2 : x2 = nI pl)
    (h1 : o ≠ 6 → ∀ τ', RQg E τ0 n τ' k C (v :: W) (o + 1) bs → K τ') (h0 : o = 6 → ∀ τ', RFc C.length τ0 τ' 4 pl → K τ') : T_qOpens τ v x2 K := by
  refine br_t h.bad ?_
  rw [h.op]
  by_cases e : o = 6
  · exact bn_f (by rw [e]; rfl) (T_fail_law h (kd := 4) rfl e2 (by omega) (by omega) (h0 e))
  · refine bn_t (fun z => e ((nI_eq (b := 6) (by omega) (by omega)).mp z)) (st_ ?_)
    rw [nI_1]
    have g := h.opn (o + 1)
    rw [g.wl]
    refine ⟨vi_ hl (by omega), st_ (st_ ?_)⟩
    rw [nI_clamp (by omega), sI_neI (by simp), g.wl, nI_1]
    exact h1 e _ (g.push v)
theorem T_qOpens_bad {K : Sto → Prop} {v x2 : Int32} (h : ¬ τ.1 0 5 = 0) (hk : K τ) : T_qOpens τ v x2 K := br_f h hk
theorem T_qDrops_law {K : Sto → Prop} {v : Int32} (h : RQg E τ0 n τ k C (v :: W) o bs) (hl : C.length < 1600) (hw : W.length < 1700) (hk : ∀ τ', RQg E τ0 n τ' k (C ++ [v]) W o bs → K τ') : T_qDrops τ K := by
  refine st_ ?_
  have e : τ.1 0 94 - 1 = nI W.length := by rw [h.wl, List.length_cons, nI_pred]
  rw [e]
  have g := h.pop
  rw [g.wl]
  refine ⟨vi_ hw (by omega), ?_⟩
  rw [nI_clamp (by omega), sI_neI (by simp), h.top]
  exact T_qCode_law g hl v hk
theorem T_qIsOn_nil {K : Int32 → Sto → Prop} {x : Int32} (h : RQg E τ0 n τ k C [] o bs) (hk : K 0 τ) : T_qIsOn τ x K := by
  unfold T_qIsOn
  rw [h.wl]
  exact br_t (by decide) hk
theorem T_qIsOn_law {K : Int32 → Sto → Prop} {x v : Int32} (h : RQg E τ0 n τ k C (v :: W) o bs) (hw : W.length < 1700) (hk : K (b1 (decide (v = x))) τ) : T_qIsOn τ x K := by
  unfold T_qIsOn
  rw [h.wl, List.length_cons, nI_pred, nI_clamp (by omega), h.top]
  refine br_f (nI_nle (by omega) (by omega)) ⟨vi_ hw (by omega), ?_⟩
  by_cases e : v = x
  · refine bn_f e ?_
    simp only [e, decide_true] at hk
    exact hk
  · refine bn_t e ?_
    simp only [e, decide_false] at hk
    exact hk
/-- the bracket that is open last, over operators; none over the base -/
theorem T_qBracket_7_law {K : Int32 → Sto → Prop} (h : RQg E τ0 n τ k C W o bs) (hw : W.length < 1700) {b : Int32} (hb : isBr b = true) {r : List Int32} (hr : bs ≤ r.length) (hk : K b τ) : ∀ (ops pre : List Int32) (f : Nat), W = pre ++ (ops ++ b :: r) → (∀ x, x ∈ ops → isBr x = false) → ops.length < f → T_qBracket_7 K f (nI (ops ++ b :: r).length - 1) τ := by
  intro ops
  induction ops with
  | nil =>
    intro pre f e hx hf
    obtain ⟨f, rfl⟩ : ∃ f', f = f' + 1 := ⟨f - 1, by simp at hf; omega⟩
    have hlen : W.length = pre.length + (r.length + 1) := by rw [e]; simp
    unfold T_qBracket_7
    rw [List.nil_append, List.length_cons, nI_pred, h.ba]
    refine br_f (nI_nlt (by omega) (by omega)) ⟨vi_ (by omega) (by omega), ?_⟩
    rw [nI_clamp (by omega), h.at_w e]
    refine T_qIsBracket_law ?_
    rw [hb]
    refine bn_t (by decide) ?_
    unfold T_qBracket_33
    rw [h.ba]
    refine br_f (nI_nlt (by omega) (by omega)) ⟨vi_ (by omega) (by omega), ?_⟩
    rw [nI_clamp (by omega), h.at_w e]
    exact hk
  | cons x ops ih =>
    intro pre f e hx hf
    obtain ⟨f, rfl⟩ : ∃ f', f = f' + 1 := ⟨f - 1, by simp at hf; omega⟩
    have hlen : W.length = pre.length + (ops.length + (r.length + 1) + 1) := by rw [e]; simp
    have hl2 : (ops ++ b :: r).length = ops.length + (r.length + 1) := by simp
    unfold T_qBracket_7
    rw [List.cons_append, List.length_cons, nI_pred, h.ba]
    refine br_f (nI_nlt (by omega) (by omega)) ⟨vi_ (by omega) (by omega), ?_⟩
    rw [nI_clamp (by omega), h.at_w (pre := pre) (rest := ops ++ b :: r) (b := x) (by rw [e]; simp)]
    refine T_qIsBracket_law ?_
    rw [hx x (by simp)]
    refine bn_f rfl ?_
    rw [← Int32.sub_eq_add_neg]
    have := ih (pre ++ [x]) f (by rw [e]; simp) (fun y hy => hx y (by simp [hy])) (by simp at hf; omega)
    exact this
theorem T_qBracket_7_none {K : Int32 → Sto → Prop} (h : RQg E τ0 n τ k C W o bs) (hw : W.length < 1700) {r : List Int32} (hr : bs = r.length) (hk : K (-1) τ) : ∀ (ops pre : List Int32) (f : Nat), W = pre ++ (ops ++ r) → (∀ x, x ∈ ops → isBr x = false) → ops.length < f → T_qBracket_7 K f (nI (ops ++ r).length - 1) τ := by
  intro ops
  induction ops with
  | nil =>
    intro pre f e hx hf
    obtain ⟨f, rfl⟩ : ∃ f', f = f' + 1 := ⟨f - 1, by simp at hf; omega⟩
    have hlen : W.length = pre.length + r.length := by rw [e]; simp
    unfold T_qBracket_7
    rw [List.nil_append, h.ba]
    refine br_t ((nI_predlt (by omega) (by omega)).mpr (by omega)) ?_
    unfold T_qBracket_33
    rw [h.ba]
    exact br_t ((nI_predlt (by omega) (by omega)).mpr (by omega)) hk
  | cons x ops ih =>
    intro pre f e hx hf
    obtain ⟨f, rfl⟩ : ∃ f', f = f' + 1 := ⟨f - 1, by simp at hf; omega⟩
    have hlen : W.length = pre.length + (ops.length + r.length + 1) := by rw [e]; simp
    have hl2 : (ops ++ r).length = ops.length + r.length := by simp
    unfold T_qBracket_7
    rw [List.cons_append, List.length_cons, nI_pred, h.ba]
    refine br_f (nI_nlt (by omega) (by omega)) ⟨vi_ (by omega) (by omega), ?_⟩
    rw [nI_clamp (by omega), h.at_w (pre := pre) (rest := ops ++ r) (b := x) (by rw [e]; simp)]
    refine T_qIsBracket_law ?_
    rw [hx x (by simp)]
    refine bn_f rfl ?_
    rw [← Int32.sub_eq_add_neg]
    exact ih (pre ++ [x]) f (by rw [e]; simp) (fun y hy => hx y (by simp [hy])) (by simp at hf; omega)
theorem T_qBracket_law {K : Int32 → Sto → Prop} {ops r : List Int32} {b : Int32} (h : RQg E τ0 n τ k C (ops ++ b :: r) o bs) (hw : (ops ++ b :: r).length < 1700) (hb : isBr b = true) (hr : bs ≤ r.length) (hx : ∀ x, x ∈ ops → isBr x = false) (hk : K b τ) : T_qBracket τ K := by
  refine ⟨ops.length + 1, ?_⟩
  rw [h.wl]
  exact T_qBracket_7_law h hw hb hr hk ops [] _ rfl hx (by omega)
theorem T_qBracket_none {K : Int32 → Sto → Prop} {ops r : List Int32} (h : RQg E τ0 n τ k C (ops ++ r) o bs) (hw : (ops ++ r).length < 1700) (hr : bs = r.length) (hx : ∀ x, x ∈ ops → isBr x = false) (hk : K (-1) τ) : T_qBracket τ K := by
  refine ⟨ops.length + 1, ?_⟩
  rw [h.wl]
  exact T_qBracket_7_none h hw hr hk ops [] _ rfl hx (by omega)
/-- operators over a bracket, or over the base, are told -/
theorem T_qDropsToBracket_0_law {K : Sto → Prop} {r : List Int32} (hr : bs = r.length ∨ ∃ b r', r = b :: r' ∧ isBr b = true ∧ bs ≤ r'.length) : ∀ (ops C : List Int32) (f : Nat) (τ : Sto), RQg E τ0 n τ k C (ops ++ r) o bs → (ops ++ r).length < 1700 → C.length + ops.length ≤ 1600 → (∀ x, x ∈ ops → isBr x = false) → ops.length < f → (∀ τ', RQg E τ0 n τ' k (C ++ ops) r o bs → K τ') → T_qDropsToBracket_0 K f τ := by
  intro ops
  induction ops with
  | nil =>
    intro C f τ h hw hc hx hf hk
    obtain ⟨f, rfl⟩ : ∃ f', f = f' + 1 := ⟨f - 1, by simp at hf; omega⟩
    rw [List.nil_append] at h hw
    have hk0 := hk τ (by rw [List.append_nil]; exact h)
    unfold T_qDropsToBracket_0
    rw [h.wl, h.ba]
    rcases hr with hr | ⟨b, r', rfl, hb, hr⟩
    · exact br_t (nI_le (by omega) (by omega)) hk0
    · rw [List.length_cons] at hw ⊢
      refine br_f (nI_ge (by omega) (by omega)) ?_
      rw [nI_pred, nI_clamp (by omega), h.top]
      refine ⟨vi_ (by omega) (by omega), T_qIsBracket_law ?_⟩
      rw [hb]
      exact bn_t (by decide) hk0
  | cons x ops ih =>
    intro C f τ h hw hc hx hf hk
    obtain ⟨f, rfl⟩ : ∃ f', f = f' + 1 := ⟨f - 1, by simp at hf; omega⟩
    rw [List.cons_append] at h hw
    rw [List.length_cons] at hw hc
    have hbr : bs ≤ (ops ++ r).length := by
      rw [List.length_append]
      rcases hr with hr | ⟨b, r', rfl, hb, hr⟩
      · omega
      · rw [List.length_cons]; omega
    unfold T_qDropsToBracket_0
    rw [h.wl, h.ba, List.length_cons]
    refine br_f (nI_ge (by omega) (by omega)) ?_
    rw [nI_pred, nI_clamp (by omega), h.top]
    refine ⟨vi_ (by omega) (by omega), T_qIsBracket_law ?_⟩
    rw [hx x (by simp)]
    refine bn_f rfl (T_qDrops_law h (by omega) (by omega) fun τ1 g => ?_)
    refine ih (C ++ [x]) f τ1 g (by omega) (by simp; omega) (fun y hy => hx y (by simp [hy])) (by simp at hf; omega) (fun τ' g' => hk τ' ?_)
    rw [List.append_assoc] at g'
    exact g'
theorem T_qDropsToBracket_law {K : Sto → Prop} {ops r : List Int32} (hr : bs = r.length ∨ ∃ b r', r = b :: r' ∧ isBr b = true ∧ bs ≤ r'.length) (h : RQg E τ0 n τ k C (ops ++ r) o bs) (hw : (ops ++ r).length < 1700) (hc : C.length + ops.length ≤ 1600) (hx : ∀ x, x ∈ ops → isBr x = false) (hk : ∀ τ', RQg E τ0 n τ' k (C ++ ops) r o bs → K τ') : T_qDropsToBracket τ K := ⟨ops.length + 1, T_qDropsToBracket_0_law hr ops C _ τ h hw hc hx (by omega) hk⟩
/-- a part has ended: nothing waits for it -/
theorem T_qEndsPart_stop {K : Sto → Prop} (h : RQg E τ0 n τ k C W o bs) (hw : W.length < 1700) (hb : bs ≤ W.length) (hs : W.length = bs ∨ ∃ v W', W = v :: W' ∧ v < 60) (hk : K τ) : T_qEndsPart τ K := by
  refine ⟨1, ?_⟩
  unfold T_qEndsPart_0
  refine bn_f h.bad ?_
  rw [h.wl, h.ba]
  by_cases hle : W.length ≤ bs
  · exact br_t (nI_le hle (by omega)) hk
  · rcases hs with hs | ⟨v, W', rfl, hv⟩
    · omega
    · rw [List.length_cons] at hw hle ⊢
      refine br_f (nI_ge (by omega) (by omega)) ?_
      rw [nI_pred, nI_clamp (by omega), h.top]
      exact ⟨vi_ (by omega) (by omega), br_t hv hk⟩
theorem T_qEndsPart_of {K : Sto → Prop} {v : Int32} (h : RQg E τ0 n τ k C (v :: W) (o + 1) bs) (hw : W.length < 1700) (hc : C.length < 1600) (hb : bs ≤ W.length) (hv : ¬ v < 60) (hk : ∀ τ', RQg E τ0 n τ' k (C ++ [v]) W o bs → T_qEndsPart τ' K) : T_qEndsPart τ K := by
  have g1 := h.opn o
  have g2 := g1.pop
  have g3 := g2.code v
  obtain ⟨f, hf⟩ := hk _ g3
  refine ⟨f + 1, ?_⟩
  unfold T_qEndsPart_0
  refine bn_f h.bad ?_
  rw [h.wl, h.ba, List.length_cons]
  refine br_f (nI_ge (by omega) (by omega)) ?_
  rw [nI_pred, nI_clamp (by omega), h.top]
  refine ⟨vi_ (by omega) (by omega), br_f hv (st_ ?_)⟩
  rw [h.op, nI_pred]
  refine st_ ?_
  rw [show (sI τ 0 95 (nI o)).1 0 94 - 1 = nI W.length by rw [g1.wl, List.length_cons, nI_pred], g2.wl, nI_clamp (by omega)]
  refine ⟨vi_ hw (by omega), ?_⟩
  unfold T_qCode
  rw [g2.cl, nI_clamp (by omega), sI_neI (show (94 : Nat) ≠ 0 by decide), g1.top]
  refine ⟨vi_ (by omega) (by omega), st_ (st_ ?_)⟩
  rw [sI_neI (show (0 : Nat) ≠ 92 by decide), g2.cl, nI_1]
  exact hf
end TC
