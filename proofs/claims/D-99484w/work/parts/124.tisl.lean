/-! PURE SIDE: the whole's state, as the model has it; an island is read. -/
/-- what is: numbers (the day, five for each thing), how many rows are kept, rows -/
abbrev St : Type := (Nat → Nat) × Nat × (Nat → Nat)
/-- tape, how much of it, the fault's kind and place, what was refused, the island, what is, what was (newest first), the seed, the image and its length -/
abbrev AS : Type := Byt × Nat × Int32 × Int32 × (Nat → Int32) × Isl × St × List St × Int64 × (Nat → Nat) × Nat
abbrev aTp (a : AS) : Byt := a.1
abbrev aTn (a : AS) : Nat := a.2.1
abbrev aFk (a : AS) : Int32 := a.2.2.1
abbrev aFp (a : AS) : Int32 := a.2.2.2.1
abbrev aRf (a : AS) : Nat → Int32 := a.2.2.2.2.1
abbrev aI (a : AS) : Isl := a.2.2.2.2.2.1
abbrev aS (a : AS) : St := a.2.2.2.2.2.2.1
abbrev aU (a : AS) : List St := a.2.2.2.2.2.2.2.1
abbrev aSd (a : AS) : Int64 := a.2.2.2.2.2.2.2.2.1
abbrev aOu (a : AS) : Nat → Nat := a.2.2.2.2.2.2.2.2.2.1
abbrev aOn (a : AS) : Nat := a.2.2.2.2.2.2.2.2.2.2
def st0 : St := (fun _ => 0, 0, fun _ => 0)
def StOK (s : St) : Prop := s.1 0 ≤ 999 ∧ (∀ t, t < 8 → s.1 (1 + 5 * t) ≤ 2 ∧ s.1 (2 + 5 * t) ≤ 99 ∧ s.1 (3 + 5 * t) ≤ 99 ∧ s.1 (4 + 5 * t) ≤ 99 ∧ s.1 (5 + 5 * t) ≤ 1) ∧ s.2.1 ≤ 50
def StR (τ : Sto) (id off : Nat) (s : St) : Prop := (∀ i, i < 41 → τ.1 id (off + i) = nI (s.1 i)) ∧ τ.1 id (off + 41) = nI s.2.1 ∧ ∀ j, j < 3 * s.2.1 → τ.1 id (off + 42 + j) = nI (s.2.2 j)
def UnR (τ : Sto) (U : List St) : Prop := U.length ≤ 20 ∧ τ.1 0 65 = nI U.length ∧ ∃ nw, nw < 20 ∧ τ.1 0 66 = nI nw ∧ ∀ j s, U[j]? = some s → StOK s ∧ StR τ 65 (192 * ((nw + 20 - j) % 20)) s
def RT (a : AS) (τ : Sto) : Prop :=
  (aTn a ≤ 1600 ∧ τ.1 0 1 = nI (aTn a) ∧ (∀ i, i < 1600 → τ.1 1 i = nI (aTp a i)) ∧ ∀ i, aTp a i < 256) ∧
  (τ.1 0 7 = aFk a ∧ τ.1 0 8 = aFp a ∧ ∀ i, i < 6 → τ.1 10 i = aRf a i) ∧ WdA τ ∧
  (IslOK (aI a) ∧ IslR τ 3 24 24 8 10 1600 1600 (aI a) ∧ τ.1 0 44 = nI (iX (aI a) 40)) ∧
  (StOK (aS a) ∧ StR τ 52 0 (aS a)) ∧ UnR τ (aU a) ∧
  (τ.2.1 0 67 = aSd a ∧ 0 ≤ aSd a ∧ aSd a < 2147483648) ∧
  (aOn a ≤ 43 ∧ τ.1 0 102 = nI (aOn a) ∧ ∀ i, i < aOn a → τ.1 102 i = nI (aOu a i) ∧ aOu a i < 256) ∧
  (τ.1 0 53 = -1 ∧ τ.1 0 57 = 0 ∧ ∃ c, c ≤ 1602 ∧ τ.1 0 92 = nI c)
def sp_island (a : AS) : Int32 × AS := match pIsl (aTp a) (aTn a) (aTn a + 1) i0 0 0 with
  | .inl e => (-1, aTp a, 0, nI e.1, nI e.2, fu_ (aRf a) 1 (aRf a 1 + 1), aI a, aS a, aU a, aSd a, aOu a, aOn a)
  | .inr r => (nI r.2, aTp a, 0, 0, -1, aRf a, r.1, st0, [], aSd a, aOu a, aOn a)
section TI
variable {τb τ τ' : Sto} {B : Byt} {n k st : Nat} {I : Isl} {K : Sto → Prop}
theorem cpy_step {ID off x : Nat} (h : ∀ i j, τ'.1 i j = if i = ID ∧ off ≤ j ∧ j < off + x then τ.1 ID (j - off) else τ.1 i j) (hx : x < off) : ∀ i j, (sI τ' ID (off + x) (τ'.1 ID x)).1 i j = if i = ID ∧ off ≤ j ∧ j < off + (x + 1) then τ.1 ID (j - off) else τ.1 i j := by
  intro i j
  rw [sI_1]
  by_cases e : i = ID ∧ j = off + x
  · obtain ⟨rfl, rfl⟩ := e
    rw [if_pos ⟨rfl, rfl⟩, if_pos ⟨rfl, by omega, by omega⟩, h, if_neg (by omega), Nat.add_sub_cancel_left]
  · rw [if_neg e, h]
    by_cases e2 : i = ID ∧ off ≤ j ∧ j < off + x
    · rw [if_pos e2, if_pos ⟨e2.1, e2.2.1, by omega⟩]
    · rw [if_neg e2, if_neg (by omega)]
theorem cpy2_step {I1 I2 off x : Nat} (hI : I1 ≠ I2) (h : ∀ i j, τ'.1 i j = if (i = I1 ∨ i = I2) ∧ off ≤ j ∧ j < off + x then τ.1 i (j - off) else τ.1 i j) (hx : x < off) : ∀ i j, (sI (sI τ' I1 (off + x) (τ'.1 I1 x)) I2 (off + x) ((sI τ' I1 (off + x) (τ'.1 I1 x)).1 I2 x)).1 i j = if (i = I1 ∨ i = I2) ∧ off ≤ j ∧ j < off + (x + 1) then τ.1 i (j - off) else τ.1 i j := by
  intro i j
  rw [sI_neI (i := I1) (a := I2) (Ne.symm hI), sI_1, sI_1]
  by_cases e : i = I2 ∧ j = off + x
  · obtain ⟨rfl, rfl⟩ := e
    rw [if_pos ⟨rfl, rfl⟩, if_pos ⟨Or.inr rfl, by omega, by omega⟩, h, if_neg (by omega), Nat.add_sub_cancel_left]
  · rw [if_neg e]
    by_cases e1 : i = I1 ∧ j = off + x
    · obtain ⟨rfl, rfl⟩ := e1
      rw [if_pos ⟨rfl, rfl⟩, if_pos ⟨Or.inl rfl, by omega, by omega⟩, h, if_neg (by omega), Nat.add_sub_cancel_left]
    · rw [if_neg e1, h]
      by_cases e2 : (i = I1 ∨ i = I2) ∧ off ≤ j ∧ j < off + x
      · rw [if_pos e2, if_pos ⟨e2.1, e2.2.1, by omega⟩]
      · rw [if_neg e2, if_neg (by omega)]
theorem st_186 (hk : ∀ τ', (∀ i j, τ'.1 i j = if i = 0 ∧ j = 65 then 0 else if i = 52 ∧ j < 192 then 0 else τ.1 i j) → τ'.2.1 = τ.2.1 → K τ') : ∃ m, T_stands0_186 K m 0 τ := by
  refine ⟨193, ?_⟩
  have lp : ∀ (d f x : Nat) (τ' : Sto), 192 - x = d → d < f → x ≤ 192 → (∀ i j, τ'.1 i j = if i = 52 ∧ j < x then 0 else τ.1 i j) → τ'.2.1 = τ.2.1 → T_stands0_186 K f (nI x) τ' := by
    intro d
    induction d with
    | zero =>
      intro f x τ' hd hf hx h1 h2
      obtain ⟨f, rfl⟩ : ∃ f', f = f' + 1 := ⟨f - 1, by omega⟩
      unfold T_stands0_186
      refine br_t (show nI 192 ≤ nI x from nI_le (by omega) (by omega)) (st_ (hk _ (fun i j => ?_) h2))
      rw [sI_1, h1]
      obtain rfl : x = 192 := by omega
      rfl
    | succ d ih =>
      intro f x τ' hd hf hx h1 h2
      obtain ⟨f, rfl⟩ : ∃ f', f = f' + 1 := ⟨f - 1, by omega⟩
      unfold T_stands0_186
      refine br_f (show ¬ nI 192 ≤ nI x from nI_ge (by omega) (by omega)) ⟨vi_ (by omega) (by omega), st_ ?_⟩
      rw [nI_1, nI_clamp (by omega)]
      refine ih f (x + 1) _ (by omega) (by omega) (by omega) (fun i j => ?_) h2
      rw [sI_1, h1]
      by_cases e : i = 52 ∧ j = x
      · rw [if_pos e, if_pos ⟨e.1, by omega⟩]
      · rw [if_neg e]
        by_cases e2 : i = 52 ∧ j < x
        · rw [if_pos e2, if_pos ⟨e2.1, by omega⟩]
        · rw [if_neg e2, if_neg (by omega)]
  exact lp 192 193 0 τ rfl (by omega) (by omega) (fun i j => by rw [if_neg (by omega)]) rfl
theorem st_154 {cd : Nat} (hcd : cd ≤ 1600) (h48 : τ.1 0 48 = nI cd) (hk : ∀ τ', (∀ i j, τ'.1 i j = if i = 48 ∧ 1600 ≤ j ∧ j < 1600 + cd then τ.1 48 (j - 1600) else τ.1 i j) → τ'.2.1 = τ.2.1 → ∃ m, T_stands0_186 K m 0 τ') : ∃ m, T_stands0_154 K m 0 τ := by
  refine ⟨cd + 1, ?_⟩
  have lp : ∀ (d f x : Nat) (τ' : Sto), cd - x = d → d < f → x ≤ cd → (∀ i j, τ'.1 i j = if i = 48 ∧ 1600 ≤ j ∧ j < 1600 + x then τ.1 48 (j - 1600) else τ.1 i j) → τ'.2.1 = τ.2.1 → T_stands0_154 K f (nI x) τ' := by
    intro d
    induction d with
    | zero =>
      intro f x τ' hd hf hx h1 h2
      obtain ⟨f, rfl⟩ : ∃ f', f = f' + 1 := ⟨f - 1, by omega⟩
      obtain rfl : x = cd := by omega
      unfold T_stands0_154
      rw [h1 0 48, if_neg (by omega), h48]
      exact br_t (nI_le (by omega) (by omega)) (hk τ' h1 h2)
    | succ d ih =>
      intro f x τ' hd hf hx h1 h2
      obtain ⟨f, rfl⟩ : ∃ f', f = f' + 1 := ⟨f - 1, by omega⟩
      unfold T_stands0_154
      rw [h1 0 48, if_neg (by omega), h48]
      rw [show (1600 : Int32) + nI x = nI (1600 + x) from nI_add 1600 x, nI_clamp (by omega), nI_clamp (by omega), nI_1]
      refine br_f (nI_ge (by omega) (by omega)) ⟨vi_ (by omega) (by omega), vi_ (by omega) (by omega), st_ ?_⟩
      exact ih f (x + 1) _ (by omega) (by omega) (by omega) (cpy_step h1 (by omega)) h2
  exact lp cd _ 0 τ rfl (by omega) (by omega) (fun i j => by rw [if_neg (by omega)]) rfl
theorem st_110 (hk : ∀ τ', (∀ i j, τ'.1 i j = if (i = 46 ∨ i = 47) ∧ 10 ≤ j ∧ j < 10 + 10 then τ.1 i (j - 10) else τ.1 i j) → τ'.2.1 = τ.2.1 → ∃ m, T_stands0_154 K m 0 τ') : ∃ m, T_stands0_110 K m 0 τ := by
  refine ⟨11, ?_⟩
  have lp : ∀ (d f x : Nat) (τ' : Sto), 10 - x = d → d < f → x ≤ 10 → (∀ i j, τ'.1 i j = if (i = 46 ∨ i = 47) ∧ 10 ≤ j ∧ j < 10 + x then τ.1 i (j - 10) else τ.1 i j) → τ'.2.1 = τ.2.1 → T_stands0_110 K f (nI x) τ' := by
    intro d
    induction d with
    | zero =>
      intro f x τ' hd hf hx h1 h2
      obtain ⟨f, rfl⟩ : ∃ f', f = f' + 1 := ⟨f - 1, by omega⟩
      obtain rfl : x = 10 := by omega
      unfold T_stands0_110
      exact br_t (by decide) (hk τ' h1 h2)
    | succ d ih =>
      intro f x τ' hd hf hx h1 h2
      obtain ⟨f, rfl⟩ : ∃ f', f = f' + 1 := ⟨f - 1, by omega⟩
      unfold T_stands0_110
      rw [show (10 : Int32) + nI x = nI (10 + x) from nI_add 10 x, nI_clamp (by omega), nI_clamp (by omega), nI_1]
      refine br_f (show ¬ nI 10 ≤ nI x from nI_ge (by omega) (by omega)) ⟨vi_ (by omega) (by omega), vi_ (by omega) (by omega), st_ ⟨vi_ (by omega) (by omega), vi_ (by omega) (by omega), st_ ?_⟩⟩
      exact ih f (x + 1) _ (by omega) (by omega) (by omega) (cpy2_step (by omega) h1 (by omega)) h2
  exact lp 10 _ 0 τ rfl (by omega) (by omega) (fun i j => by rw [if_neg (by omega)]) rfl
theorem st_73 (hk : ∀ τ', (∀ i j, τ'.1 i j = if i = 0 ∧ j = 44 then τ.1 0 43 else if i = 43 ∧ 8 ≤ j ∧ j < 8 + 8 then τ.1 43 (j - 8) else τ.1 i j) → τ'.2.1 = τ.2.1 → ∃ m, T_stands0_110 K m 0 τ') : ∃ m, T_stands0_73 K m 0 τ := by
  refine ⟨9, ?_⟩
  have lp : ∀ (d f x : Nat) (τ' : Sto), 8 - x = d → d < f → x ≤ 8 → (∀ i j, τ'.1 i j = if i = 43 ∧ 8 ≤ j ∧ j < 8 + x then τ.1 43 (j - 8) else τ.1 i j) → τ'.2.1 = τ.2.1 → T_stands0_73 K f (nI x) τ' := by
    intro d
    induction d with
    | zero =>
      intro f x τ' hd hf hx h1 h2
      obtain ⟨f, rfl⟩ : ∃ f', f = f' + 1 := ⟨f - 1, by omega⟩
      obtain rfl : x = 8 := by omega
      unfold T_stands0_73
      refine br_t (by decide) (st_ (hk _ (fun i j => ?_) h2))
      rw [sI_1, h1, h1, if_neg (show ¬ (0 = 43 ∧ _) by omega)]
    | succ d ih =>
      intro f x τ' hd hf hx h1 h2
      obtain ⟨f, rfl⟩ : ∃ f', f = f' + 1 := ⟨f - 1, by omega⟩
      unfold T_stands0_73
      rw [show (8 : Int32) + nI x = nI (8 + x) from nI_add 8 x, nI_clamp (by omega), nI_clamp (by omega), nI_1]
      refine br_f (show ¬ nI 8 ≤ nI x from nI_ge (by omega) (by omega)) ⟨vi_ (by omega) (by omega), vi_ (by omega) (by omega), st_ ?_⟩
      exact ih f (x + 1) _ (by omega) (by omega) (by omega) (cpy_step h1 (by omega)) h2
  exact lp 8 _ 0 τ rfl (by omega) (by omega) (fun i j => by rw [if_neg (by omega)]) rfl
theorem st_29 (hk : ∀ τ', (∀ i j, τ'.1 i j = if i = 42 ∧ 24 ≤ j ∧ j < 24 + 24 then τ.1 42 (j - 24) else τ.1 i j) → (∀ i j, τ'.2.1 i j = if i = 41 ∧ 24 ≤ j ∧ j < 24 + 24 then τ.2.1 41 (j - 24) else τ.2.1 i j) → ∃ m, T_stands0_73 K m 0 τ') : ∃ m, T_stands0_29 K m 0 τ := by
  refine ⟨25, ?_⟩
  have lp : ∀ (d f x : Nat) (τ' : Sto), 24 - x = d → d < f → x ≤ 24 → (∀ i j, τ'.1 i j = if i = 42 ∧ 24 ≤ j ∧ j < 24 + x then τ.1 42 (j - 24) else τ.1 i j) → (∀ i j, τ'.2.1 i j = if i = 41 ∧ 24 ≤ j ∧ j < 24 + x then τ.2.1 41 (j - 24) else τ.2.1 i j) → T_stands0_29 K f (nI x) τ' := by
    intro d
    induction d with
    | zero =>
      intro f x τ' hd hf hx h1 h2
      obtain ⟨f, rfl⟩ : ∃ f', f = f' + 1 := ⟨f - 1, by omega⟩
      obtain rfl : x = 24 := by omega
      unfold T_stands0_29
      exact br_t (by decide) (hk τ' h1 h2)
    | succ d ih =>
      intro f x τ' hd hf hx h1 h2
      obtain ⟨f, rfl⟩ : ∃ f', f = f' + 1 := ⟨f - 1, by omega⟩
      unfold T_stands0_29
      rw [show (24 : Int32) + nI x = nI (24 + x) from nI_add 24 x, nI_clamp (by omega), nI_clamp (by omega), nI_1]
      refine br_f (show ¬ nI 24 ≤ nI x from nI_ge (by omega) (by omega)) ⟨vi_ (by omega) (by omega), vi_ (by omega) (by omega), st_ ⟨vi_ (by omega) (by omega), vi_ (by omega) (by omega), st_ ?_⟩⟩
      refine ih f (x + 1) _ (by omega) (by omega) (by omega) (cpy_step (τ' := sL τ' 41 (24 + x) (τ'.2.1 41 x)) h1 (by omega)) (fun i j => ?_)
      rw [sI_2, sL_2]
      by_cases e : i = 41 ∧ j = 24 + x
      · obtain ⟨rfl, rfl⟩ := e
        rw [if_pos ⟨rfl, rfl⟩, if_pos ⟨rfl, by omega, by omega⟩, h2, if_neg (by omega), Nat.add_sub_cancel_left]
      · rw [if_neg e, h2]
        by_cases e2 : i = 41 ∧ 24 ≤ j ∧ j < 24 + x
        · rw [if_pos e2, if_pos ⟨e2.1, e2.2.1, by omega⟩]
        · rw [if_neg e2, if_neg (by omega)]
  exact lp 24 _ 0 τ rfl (by omega) (by omega) (fun i j => by rw [if_neg (by omega)]) (fun i j => by rw [if_neg (by omega)])
theorem st_2 (hk : ∀ τ', (∀ i j, τ'.1 i j = if i = 40 ∧ 3 ≤ j ∧ j < 3 + 3 then τ.1 40 (j - 3) else τ.1 i j) → τ'.2.1 = τ.2.1 → ∃ m, T_stands0_29 K m 0 τ') : ∃ m, T_stands0_2 K m 0 τ := by
  refine ⟨4, ?_⟩
  have lp : ∀ (d f x : Nat) (τ' : Sto), 3 - x = d → d < f → x ≤ 3 → (∀ i j, τ'.1 i j = if i = 40 ∧ 3 ≤ j ∧ j < 3 + x then τ.1 40 (j - 3) else τ.1 i j) → τ'.2.1 = τ.2.1 → T_stands0_2 K f (nI x) τ' := by
    intro d
    induction d with
    | zero =>
      intro f x τ' hd hf hx h1 h2
      obtain ⟨f, rfl⟩ : ∃ f', f = f' + 1 := ⟨f - 1, by omega⟩
      obtain rfl : x = 3 := by omega
      unfold T_stands0_2
      exact br_t (by decide) (hk τ' h1 h2)
    | succ d ih =>
      intro f x τ' hd hf hx h1 h2
      obtain ⟨f, rfl⟩ : ∃ f', f = f' + 1 := ⟨f - 1, by omega⟩
      unfold T_stands0_2
      rw [show (3 : Int32) + nI x = nI (3 + x) from nI_add 3 x, nI_clamp (by omega), nI_clamp (by omega), nI_1]
      refine br_f (show ¬ nI 3 ≤ nI x from nI_ge (by omega) (by omega)) ⟨vi_ (by omega) (by omega), vi_ (by omega) (by omega), st_ ?_⟩
      exact ih f (x + 1) _ (by omega) (by omega) (by omega) (cpy_step h1 (by omega)) h2
  exact lp 3 _ 0 τ rfl (by omega) (by omega) (fun i j => by rw [if_neg (by omega)]) rfl
/-- the island that was read stands -/
def stdF (τ : Sto) (cd i j : Nat) : Int32 := if i = 0 ∧ j = 65 then 0 else if i = 52 ∧ j < 192 then 0 else if i = 48 ∧ 1600 ≤ j ∧ j < 1600 + cd then τ.1 48 (j - 1600) else if (i = 46 ∨ i = 47) ∧ 10 ≤ j ∧ j < 20 then τ.1 i (j - 10) else if i = 0 ∧ j = 44 then τ.1 0 43 else if i = 43 ∧ 8 ≤ j ∧ j < 16 then τ.1 43 (j - 8) else if i = 42 ∧ 24 ≤ j ∧ j < 48 then τ.1 42 (j - 24) else if i = 40 ∧ 3 ≤ j ∧ j < 6 then τ.1 40 (j - 3) else τ.1 i j
theorem T_stands0_law {cd : Nat} (hcd : cd ≤ 1600) (h48 : τ.1 0 48 = nI cd) (hk : ∀ τ', (∀ i j, τ'.1 i j = stdF τ cd i j) → (∀ i j, τ'.2.1 i j = if i = 41 ∧ 24 ≤ j ∧ j < 48 then τ.2.1 41 (j - 24) else τ.2.1 i j) → K τ') : T_stands0 τ K := by
  refine st_2 fun τ1 a1 b1 => st_29 fun τ2 a2 b2 => st_73 fun τ3 a3 b3 => st_110 fun τ4 a4 b4 => st_154 hcd ?_ fun τ5 a5 b5 => st_186 fun τ6 a6 b6 => hk τ6 (fun i j => ?_) (fun i j => ?_)
  · rw [a4, if_neg (by omega), a3, if_neg (by omega), if_neg (by omega), a2, if_neg (by omega), a1, if_neg (by omega)]; exact h48
  · rw [a6]
    unfold stdF
    by_cases c1 : i = 0 ∧ j = 65
    · rw [if_pos c1, if_pos c1]
    rw [if_neg c1, if_neg c1]
    by_cases c2 : i = 52 ∧ j < 192
    · rw [if_pos c2, if_pos c2]
    rw [if_neg c2, if_neg c2, a5]
    by_cases c3 : i = 48 ∧ 1600 ≤ j ∧ j < 1600 + cd
    · rw [if_pos c3, if_pos c3, a4, if_neg (by omega), a3, if_neg (by omega), if_neg (by omega), a2, if_neg (by omega), a1, if_neg (by omega)]
    rw [if_neg c3, if_neg c3, a4]
    by_cases c4 : (i = 46 ∨ i = 47) ∧ 10 ≤ j ∧ j < 10 + 10
    · rw [if_pos c4, if_pos (by omega), a3, if_neg (by omega), if_neg (by omega), a2, if_neg (by omega), a1, if_neg (by omega)]
    rw [if_neg c4, if_neg (by omega), a3]
    by_cases c5 : i = 0 ∧ j = 44
    · rw [if_pos c5, if_pos c5, a2, if_neg (by omega), a1, if_neg (by omega)]
    rw [if_neg c5, if_neg c5]
    by_cases c6 : i = 43 ∧ 8 ≤ j ∧ j < 8 + 8
    · rw [if_pos c6, if_pos (by omega), a2, if_neg (by omega), a1, if_neg (by omega)]
    rw [if_neg c6, if_neg (by omega), a2]
    by_cases c7 : i = 42 ∧ 24 ≤ j ∧ j < 24 + 24
    · rw [if_pos c7, if_pos (by omega), a1, if_neg (by omega)]
    rw [if_neg c7, if_neg (by omega), a1]
  · rw [b6, b5, b4, b3, b2, b1]
end TI
