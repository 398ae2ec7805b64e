/-! PURE SIDE, the model's reader: leaf laws. -/
def wTab : List (Nat × List Nat) := [(11, [116, 104, 105, 110, 103]), (12, [119, 111, 114, 116, 104]), (13, [117, 115, 101]), (14, [102, 114, 97, 105, 108]), (15, [109, 101, 110, 100, 101, 114]), (16, [115, 107, 105, 108, 108]), (17, [104, 111, 117, 114, 115]), (18, [116, 114, 105, 97, 108]), (19, [105, 115]), (20, [115, 116, 97, 110, 100, 115]), (21, [102, 97, 108, 108, 115]), (22, [116, 97, 107, 101, 115]), (23, [102, 105, 110, 101]), (24, [102, 105, 114, 115, 116]), (25, [99, 97, 116]), (26, [98, 114, 101, 97, 107, 115]), (27, [109, 101, 110, 100, 115]), (28, [100, 97, 121]), (29, [103, 108, 117, 101]), (30, [110, 117, 109, 98, 101, 114]), (31, [102, 111, 114, 103, 101, 100]), (32, [108, 97, 115, 116]), (33, [111, 114]), (34, [97, 110, 100]), (35, [110, 111, 116]), (36, [97, 108, 108]), (37, [109, 105, 110]), (38, [109, 97, 120]),
  (69, [102, 105, 114, 115, 116]), (70, [108, 97, 115, 116]), (71, [111, 102, 116, 101, 110]), (72, [116, 111, 116, 97, 108]), (73, [109, 111, 115, 116]), (74, [108, 101, 97, 115, 116]), (75, [110, 111, 116]), (76, [97, 110, 100]), (77, [111, 114]), (78, [97, 108, 108]), (79, [109, 105, 110]), (80, [109, 97, 120]), (81, [119, 111, 114, 116, 104]), (82, [117, 115, 101]), (83, [102, 114, 97, 105, 108]), (84, [98, 114, 101, 97, 107, 115]), (85, [109, 101, 110, 100, 115]), (86, [100, 97, 121]), (87, [103, 108, 117, 101]), (88, [115, 107, 105, 108, 108]), (89, [110, 117, 109, 98, 101, 114]), (90, [102, 111, 114, 103, 101, 100]), (91, [105, 115])]
/-- the words' arrays -/
def WdA (τ : Sto) : Prop := ∀ p, p ∈ wTab → ∀ i, i < p.2.length → τ.1 p.1 i = nI (p.2.getD i 0)
theorem wTab_L : ∀ p, p ∈ wTab → twL p.1 = some (.inr (3, p.2.length)) := by
  intro p hp
  simp only [wTab, List.mem_cons, List.not_mem_nil, or_false] at hp
  repeat' (first | rfl | (rcases hp with hp | hp))
theorem wTab_len {p : Nat × List Nat} (hp : p ∈ wTab) : twLen p.1 = p.2.length := by
  unfold twLen; rw [wTab_L p hp]
theorem wTab_short : ∀ p, p ∈ wTab → p.2.length < 10 := by decide
/-- a text lies on the tape -/
def TxT (τ0 : Sto) (B : Byt) (n : Nat) : Prop := n ≤ 1600 ∧ τ0.1 0 3 = nI n ∧ (∀ i, i < n → τ0.1 1 i = nI (B i)) ∧ (∀ i, B i < 256) ∧ WdA τ0
def scrQ (i j : Nat) : Prop := (i = 0 ∧ (j = 2 ∨ j = 4 ∨ j = 5 ∨ j = 6 ∨ j = 38 ∨ j = 92 ∨ j = 94 ∨ j = 95 ∨ j = 96)) ∨ i = 92 ∨ i = 94
def FrQ (τ0 τ : Sto) : Prop := (∀ i j, ¬ scrQ i j → τ.1 i j = τ0.1 i j) ∧ τ.2.1 = τ0.2.1
def EnO (B : Byt) (n k : Nat) (x : Int32) : Prop := (∃ y, y ≤ k ∧ (x = nI y ∨ x = -1)) ∧ (x = nI (skp B n k) ↔ pA B (skp B n k) = true)
def RQg (E : Int32 → Prop) (τ0 : Sto) (n : Nat) (τ : Sto) (k : Nat) (C W : List Int32) (o bs : Nat) : Prop :=
  FrQ τ0 τ ∧ k ≤ n ∧ τ.1 0 2 = nI k ∧ E (τ.1 0 4) ∧ (τ.1 0 5 = 0 ∧ τ.1 0 6 = τ0.1 0 6) ∧
  (τ.1 0 92 = nI C.length ∧ ∀ i, i < C.length → τ.1 92 i = C.getD i 0) ∧
  (τ.1 0 94 = nI W.length ∧ ∀ i, i < W.length → τ.1 94 i = W.reverse.getD i 0) ∧
  τ.1 0 95 = nI o ∧ τ.1 0 96 = nI bs
abbrev RQ (τ0 : Sto) (B : Byt) (n : Nat) (τ : Sto) (k : Nat) (C W : List Int32) (o bs : Nat) : Prop := RQg (EnO B n k) τ0 n τ k C W o bs
/-- a fault: its kind and place; so many codes at most -/
def RFc (z : Nat) (τ0 : Sto) (τ : Sto) (kd pl : Nat) : Prop := FrQ τ0 τ ∧ τ.1 0 5 = nI kd ∧ ¬ τ.1 0 5 = 0 ∧ τ.1 0 6 = nI pl ∧ ∃ c, c ≤ z ∧ τ.1 0 92 = nI c
theorem bt_lt {B : Byt} {n k : Nat} (h : k < n) : bt B n k = B k := by simp [bt, h]
theorem bt_ge {B : Byt} {n k : Nat} (h : n ≤ k) : bt B n k = 256 := by simp [bt, Nat.not_lt.mpr h]
theorem bl_out {B : Byt} {n : Nat} : ∀ j, n ≤ j → (fun j => bl (bt B n j)) j = false := fun j h => by simp [bt_ge h, bl]
theorem pL_out {B : Byt} {n : Nat} : ∀ j, n ≤ j → (fun j => pL (bt B n j)) j = false := fun j h => by simp [bt_ge h, pL]
theorem pD_out {B : Byt} {n : Nat} : ∀ j, n ≤ j → (fun j => pD (bt B n j)) j = false := fun j h => by simp [bt_ge h, pD]
theorem skp_ge (B : Byt) (n k : Nat) : k ≤ skp B n k := rnE_ge _ _ _
theorem skp_le {B : Byt} {n k : Nat} (h : k ≤ n) : skp B n k ≤ n := rnE_le h
theorem skp_idem (B : Byt) (n k : Nat) : skp B n (skp B n k) = skp B n k := rnE_idem bl_out k
theorem skp_stop {B : Byt} {n k : Nat} (h : bl (bt B n k) = false) : skp B n k = k := rnE_stop (q := fun j => bl (bt B n j)) h
theorem skp_step {B : Byt} {n k : Nat} (h : bl (bt B n k) = true) (hk : k < n) : skp B n k = skp B n (k + 1) := rnE_step (q := fun j => bl (bt B n j)) h hk
theorem skp_nb (B : Byt) (n k : Nat) : bl (bt B n (skp B n k)) = false := rnE_false (q := fun j => bl (bt B n j)) bl_out _ k rfl
theorem skp_blank {B : Byt} {n k j : Nat} (h1 : k ≤ j) (h2 : j < skp B n k) : bl (bt B n j) = true := rnE_all (q := fun j => bl (bt B n j)) _ k rfl j h1 h2
theorem bl_in {B : Byt} {n k : Nat} (h : bl (bt B n k) = true) : k < n := by
  by_cases hk : k < n
  · exact hk
  · rw [bt_ge (Nat.not_lt.mp hk)] at h; exact absurd h (by decide)
theorem pL_in {B : Byt} {n k : Nat} (h : pL (bt B n k) = true) : k < n := by
  by_cases hk : k < n
  · exact hk
  · rw [bt_ge (Nat.not_lt.mp hk)] at h; exact absurd h (by decide)
theorem pD_in {B : Byt} {n k : Nat} (h : pD (bt B n k) = true) : k < n := by
  by_cases hk : k < n
  · exact hk
  · rw [bt_ge (Nat.not_lt.mp hk)] at h; exact absurd h (by decide)
theorem bt_in {B : Byt} {n k c : Nat} (h : bt B n k = c) (hc : c ≠ 256) : k < n := by
  by_cases hk : k < n
  · exact hk
  · rw [bt_ge (Nat.not_lt.mp hk)] at h; exact absurd h.symm hc
theorem bl_not {c : Nat} (h : bl c = true) : pL c = false ∧ pD c = false := by
  simp only [bl, decide_eq_true_eq] at h
  rcases h with h | h <;> subst h <;> decide
/-- behind blanks nothing stands just ahead -/
theorem pA_skp {B : Byt} {n k : Nat} (h : k < skp B n k) : pA B (skp B n k) = false := by
  have hb := skp_blank (B := B) (n := n) (k := k) (j := skp B n k - 1) (by omega) (by omega)
  have hin := bl_in hb
  rw [bt_lt hin] at hb
  simp [pA, bl_not hb]
theorem EnO.skip_ {B : Byt} {n k : Nat} {x : Int32} (h : EnO B n k x) : EnO B n (skp B n k) x := by
  obtain ⟨⟨y, hy, hx⟩, h2⟩ := h
  exact ⟨⟨y, Nat.le_trans hy (skp_ge B n k), hx⟩, by rw [skp_idem]; exact h2⟩
theorem nI_m1 {k : Nat} (h : k < 2 ^ 31) : ¬ (-1 : Int32) = nI k := by
  intro z
  have := congrArg Int32.toInt z
  rw [nI_toInt h, n1_] at this
  omega
/-- a sign is passed -/
theorem EnO.sign {B : Byt} {n k : Nat} {x : Int32} (h : EnO B n k x) (hn : n ≤ 1600) (hk : k < n) (h1 : pL (B k) = false) (h2 : pD (B k) = false) : EnO B n (k + 1) x := by
  obtain ⟨⟨y, hy, hx⟩, -⟩ := h
  refine ⟨⟨y, by omega, hx⟩, ?_⟩
  have hge := skp_ge B n (k + 1)
  have hle := skp_le (B := B) (n := n) (k := k + 1) hk
  have hf : pA B (skp B n (k + 1)) = false := by
    by_cases e : k + 1 = skp B n (k + 1)
    · rw [← e]; simp [pA, h1, h2]
    · exact pA_skp (by omega)
  rw [hf]
  constructor
  · intro z
    exfalso
    rcases hx with hx | hx
    · rw [hx, nI_eq (by omega) (by omega)] at z; omega
    · rw [hx] at z; exact nI_m1 (by omega) z
  · intro z; cases z
/-- a word or a number has ended -/
theorem EnO.ends {B : Byt} {n q : Nat} (hn : n ≤ 1600) (hq : q ≤ n) (h0 : 0 < q) (h1 : pL (B (q - 1)) = true ∨ pD (B (q - 1)) = true) : EnO B n q (nI q) := by
  refine ⟨⟨q, Nat.le_refl _, Or.inl rfl⟩, ?_⟩
  have hge := skp_ge B n q
  have hle := skp_le (B := B) (n := n) (k := q) hq
  rw [nI_eq (by omega) (by omega)]
  by_cases e : q = skp B n q
  · rw [← e]
    simp only [true_iff]
    simp [pA, h0, h1]
  · simp only [e, false_iff]
    rw [pA_skp (by omega)]; decide
