/-! COMPONENT, PURE SIDE: what sums and tests tell. -/
/-- P holds all through an evaluation: the cells S are as in σ0, the moment mo asks e, what is looked up is told by e -/
def EvH (tk D : Nat) (σ0 : CS) (S : Nat → Prop) (mo : Nat) (e : Env) (P : CS → Prop) : Prop :=
  (∀ σ, P σ → (∀ i, S i → agr σ0 σ i) ∧ ∀ k, k < 10 → alw tk k = true → gL σ (mo + 1) k = e.1 k) ∧
  (tk = 3 → ∀ (n : Nat), D ≤ n → ∀ (σ : CS) (x : Int64) (K : Int64 → CS → Prop), P σ → (∀ σ', P σ' → K (e.2 x) σ') → U_X0_looked (U_ev n).1 (U_ev n).2 σ 0 x K)
section CE
variable {tk D mo : Nat} {σ0 : CS} {S : Nat → Prop} {e : Env} {P : CS → Prop}
theorem ev_val (H : EvH tk D σ0 S mo e P) : ∀ (d q : Nat) (v : VV), VC tk σ0 S d q v → ∀ (n : Nat), d + D ≤ n → ∀ (σ : CS) (K : Int64 → CS → Prop), P σ → (∀ σ', P σ' → K (v e) σ') → (U_ev n).1 σ q mo K
  | 0, _, _, h => h.elim
  | d + 1, q, v, h => by
    intro n hn σ K hP hk
    obtain ⟨n, rfl⟩ : ∃ n', n = n' + 1 := ⟨n - 1, by omega⟩
    obtain ⟨hq, h⟩ := h
    have fq : ∀ {σ}, P σ → agr σ0 σ q := fun hP => (H.1 _ hP).1 q hq
    rcases h with ⟨h1, h2⟩ | ⟨h1, k, h2, h3, h4, h5⟩ | ⟨h1, h2, h3, h4, x, w, h5, h6, h7⟩ | ⟨h1, x, y, a, b, two, h2, h3, h4, h5, h6, h7⟩ | ⟨h1, li, sb, m, el, sg, vs, h2, h3, h4, h5, h6, h7⟩
    · subst h2
      have hK : gK σ q = some kO15 := (fq hP).1.trans h1
      refine Or.inr (Or.inr (Or.inl ⟨hK, hK, ?_⟩))
      rw [(fq hP).2.2.1]
      exact hk σ hP
    · subst h5
      have hK : gK σ q = some kO16 := (fq hP).1.trans h1
      refine Or.inr (Or.inr (Or.inr (Or.inl ⟨hK, hK, ?_⟩)))
      rw [(fq hP).2.1, h4, nI_clamp (by omega), (H.1 σ hP).2 k h2 h3]
      exact ⟨vi_ h2 (by omega), U_held (hk σ hP)⟩
    · subst h7
      have hK : gK σ q = some kO17 := (fq hP).1.trans h1
      refine Or.inr (Or.inr (Or.inr (Or.inr ⟨hK, hK, ?_, hK, hK, x, ?_, ?_⟩)))
      · rw [(fq hP).2.2.2]; exact h3
      · rw [(fq hP).2.2.2]; exact h5
      · rw [(fq hP).2.1, h4]
        exact ev_val H d x w h6 n (by omega) σ _ hP fun σ1 hP1 => H.2 h2 n (by omega) σ1 _ _ hP1 fun σ2 hP2 => U_held (hk σ2 hP2)
    · subst h7
      have hK : ∀ {σ}, P σ → gK σ q = some kO14 := fun hP => (fq hP).1.trans h1
      refine Or.inr (Or.inl ⟨hK hP, hK hP, x, ?_, ?_⟩)
      · rw [(fq hP).2.2.2]; exact h3
      · refine ev_val H d x a h5 n (by omega) σ _ hP fun σ1 hP1 => ⟨hK hP1, y, ?_, ?_⟩
        · rw [(fq hP1).2.2.2]; exact h4
        · refine ev_val H d y b h6 n (by omega) σ1 _ hP1 fun σ2 hP2 => ⟨hK hP2, ?_⟩
          rw [(fq hP2).2.1, h2]
          have hkk := hk σ2 hP2
          try dsimp only at hkk
          by_cases c : a e ≤ b e
          · refine br_t c ?_
            cases two with
            | true => rw [if_pos rfl, if_pos c] at hkk; exact bn_t (by decide) hkk
            | false => rw [if_neg (by decide), if_pos c] at hkk; exact bn_f rfl hkk
          · refine br_f c ?_
            cases two with
            | true => rw [if_pos rfl, if_neg c] at hkk; exact bn_f rfl hkk
            | false => rw [if_neg (by decide), if_neg c] at hkk; exact bn_t (by decide) hkk
    · subst h7
      have hK : ∀ {σ}, P σ → gK σ q = some kO13 := fun hP => (fq hP).1.trans h1
      have hL : ∀ {σ}, P σ → gR σ q 0 = li + 1 := fun hP => by rw [(fq hP).2.2.2]; exact h2
      have hB : ∀ {σ}, P σ → gR σ q 1 = sb + 1 := fun hP => by rw [(fq hP).2.2.2]; exact h3
      have lsL : ∀ {σ}, P σ → LsC σ S li (m + 1) el := fun hP => h4.fr (H.1 _ hP).1 (fun _ h => h)
      have sbL : ∀ {σ}, P σ → SbC σ S sb (m + 1) sg := fun hP => h5.fr (H.1 _ hP).1 (fun _ h => h)
      have hVa : ∀ {σ} {j : Nat}, P σ → j ≤ m → isC "MendedThings$Value" σ (el j) := fun hP hj => VC.isC (h6 _ hj) ((H.1 _ hP).1 _ (VC.inS (h6 _ hj)))
      have lp : ∀ (t f k : Nat) (σ : CS), m - k = t → t + 1 < f → k ≤ m → P σ → U_X16_at_21 (U_ev n).1 (U_ev n).2 K q mo f (chV sg vs k e) (nI (k + 1)) σ := by
        intro t
        induction t with
        | zero =>
          intro f k σ ht hf hkm hP
          obtain ⟨f, rfl⟩ : ∃ f', f = f' + 1 := ⟨f - 1, by omega⟩
          obtain rfl : k = m := by omega
          unfold U_X16_at_21
          exact ⟨hK hP, li, hL hP, (lsL hP).2.1, U_size (lsL hP) (br_t (nI_le (Nat.le_refl _) (by have := h4.2.2.2.1; omega)) (hk σ hP))⟩
        | succ t ih =>
          intro f k σ ht hf hkm hP
          obtain ⟨f, rfl⟩ : ∃ f', f = f' + 1 := ⟨f - 1, by omega⟩
          have hm := h4.2.2.2.1
          unfold U_X16_at_21
          refine ⟨hK hP, li, hL hP, (lsL hP).2.1, U_size (lsL hP) (br_f (nI_ge (by omega) (by omega)) ⟨hK hP, sb, hB hP, (sbL hP).2.1, U_chr (sbL hP) (by omega) ⟨hK hP, li, hL hP, (lsL hP).2.1, U_get (lsL hP) (by omega) ⟨_, rfl, hVa hP (by omega), ?_⟩⟩⟩)⟩
          refine ev_val H d _ _ (h6 (k + 1) (by omega)) n (by omega) σ _ hP fun σ1 hP1 => ?_
          obtain ⟨y, cap, -, -, -, -, -, hsg⟩ := h5.2.2.2.2.2
          refine U_two (hsg (k + 1) (by omega)).2 (U_held ?_)
          rw [nI_1]
          exact ih f (k + 1) σ1 (by omega) (by omega) (by omega) hP1
      refine Or.inl ⟨hK hP, hK hP, li, hL hP, (lsL hP).2.1, ?_⟩
      refine U_get (j := 0) (lsL hP) (by omega) ⟨_, rfl, hVa hP (by omega), ?_⟩
      exact ev_val H d _ _ (h6 0 (by omega)) n (by omega) σ _ hP fun σ1 hP1 => ⟨m + 2, lp m (m + 2) 0 σ1 (by omega) (by omega) (by omega) hP1⟩
theorem faV_all {al : Bool} {ts : Nat → TT} : ∀ m, (∀ j, j ≤ m → ts j e = al) → faV al ts m e = al
  | 0, h => h 0 (Nat.le_refl _)
  | m + 1, h => by
    have ih := faV_all m (fun j hj => h j (by omega))
    have hm := h (m + 1) (Nat.le_refl _)
    show (bif al then faV al ts m e && ts (m + 1) e else faV al ts m e || ts (m + 1) e) = al
    rw [ih, hm]
    cases al <;> rfl
theorem faV_one {al : Bool} {ts : Nat → TT} {j : Nat} : ∀ m, j ≤ m → ts j e = !al → faV al ts m e = !al
  | 0, hj, h => by
    obtain rfl : j = 0 := by omega
    exact h
  | m + 1, hj, h => by
    show (bif al then faV al ts m e && ts (m + 1) e else faV al ts m e || ts (m + 1) e) = !al
    by_cases c : j = m + 1
    · subst c; rw [h]; cases al <;> simp
    · rw [faV_one m (by omega) h]; cases al <;> simp
theorem ev_tst (H : EvH tk D σ0 S mo e P) : ∀ (d q : Nat) (v : TT), TC tk σ0 S d q v → ∀ (n : Nat), d + D ≤ n → ∀ (σ : CS) (K : Int32 → CS → Prop), P σ → (∀ σ', P σ' → K (b1 (v e)) σ') → (U_ev n).2 σ q mo K
  | 0, _, _, h => h.elim
  | d + 1, q, v, h => by
    intro n hn σ K hP hk
    obtain ⟨n, rfl⟩ : ∃ n', n = n' + 1 := ⟨n - 1, by omega⟩
    obtain ⟨hq, h⟩ := h
    have fq : ∀ {σ}, P σ → agr σ0 σ q := fun hP => (H.1 _ hP).1 q hq
    rcases h with ⟨h1, h2⟩ | ⟨h1, x, w, h2, h3, h4⟩ | ⟨h1, x, y, c, a, b, h2, h3, h4, h5, h6, h7, h8⟩ | ⟨h1, li, m, el, ts, al, h2, h3, h4, h5, h6⟩
    · subst h2
      exact Or.inr (Or.inr (Or.inl ⟨(fq hP).1.trans h1, hk σ hP⟩))
    · subst h4
      have hK : gK σ q = some kO11 := (fq hP).1.trans h1
      refine Or.inr (Or.inl ⟨hK, hK, x, ?_, ?_⟩)
      · rw [(fq hP).2.2.2]; exact h2
      · refine ev_tst H d x w h3 n (by omega) σ _ hP fun σ1 hP1 => ?_
        have hkk := hk σ1 hP1
        try dsimp only at hkk
        cases hw : w e with
        | true => rw [hw] at hkk; exact bn_t (by decide) hkk
        | false => rw [hw] at hkk; exact bn_f rfl hkk
    · subst h8
      have hK : ∀ {σ}, P σ → gK σ q = some kO18 := fun hP => (fq hP).1.trans h1
      refine Or.inr (Or.inr (Or.inr ⟨hK hP, hK hP, x, ?_, ?_⟩))
      · rw [(fq hP).2.2.2]; exact h2
      · refine ev_val H d x a h6 n (by omega) σ _ hP fun σ1 hP1 => ⟨hK hP1, y, ?_, ?_⟩
        · rw [(fq hP1).2.2.2]; exact h3
        · refine ev_val H d y b h7 n (by omega) σ1 _ hP1 fun σ2 hP2 => ⟨hK hP2, ?_⟩
          rw [(fq hP2).2.1, h4]
          have hkk := hk σ2 hP2
          try dsimp only at hkk
          unfold cmpL at hkk
          rcases h5 with rfl | rfl | rfl
          · rw [if_pos rfl] at hkk
            refine bn_f rfl ?_
            by_cases z : a e < b e
            · rw [decide_eq_true z] at hkk; exact br_f (Int64.not_le.mpr z) hkk
            · rw [decide_eq_false z] at hkk; exact br_t (Int64.not_lt.mp z) hkk
          · rw [if_neg (by decide), if_pos rfl] at hkk
            refine bn_t (by decide) ⟨hK hP2, ?_⟩
            refine bn_f rfl ?_
            by_cases z : b e < a e
            · rw [decide_eq_true z] at hkk; exact br_f (Int64.not_le.mpr z) hkk
            · rw [decide_eq_false z] at hkk; exact br_t (Int64.not_lt.mp z) hkk
          · rw [if_neg (by decide), if_neg (by decide)] at hkk
            refine bn_t (by decide) ⟨hK hP2, ?_⟩
            refine bn_t (by decide) ?_
            by_cases z : a e = b e
            · rw [decide_eq_true z] at hkk; exact bn_f z hkk
            · rw [decide_eq_false z] at hkk; exact bn_t z hkk
    · subst h6
      have hK : ∀ {σ}, P σ → gK σ q = some kO10 := fun hP => (fq hP).1.trans h1
      have hL : ∀ {σ}, P σ → gR σ q 0 = li + 1 := fun hP => by rw [(fq hP).2.2.2]; exact h2
      have hA : ∀ {σ}, P σ → gI σ q 1 = b1 al := fun hP => by rw [(fq hP).2.1]; exact h3
      have lsL : ∀ {σ}, P σ → LsC σ S li (m + 1) el := fun hP => h4.fr (H.1 _ hP).1 (fun _ h => h)
      have hTa : ∀ {σ} {j : Nat}, P σ → j ≤ m → isC "MendedThings$Test" σ (el j) := fun hP hj => TC.isC (h5 _ hj) ((H.1 _ hP).1 _ (TC.inS (h5 _ hj)))
      have lp : ∀ (t f k : Nat) (σ : CS), m + 1 - k = t → t < f → k ≤ m + 1 → (∀ j, j < k → ts j e = al) → P σ → U_X12_holds_2 (U_ev n).1 (U_ev n).2 K q mo f (nI k) σ := by
        intro t
        induction t with
        | zero =>
          intro f k σ ht hf hkm hts hP
          obtain ⟨f, rfl⟩ : ∃ f', f = f' + 1 := ⟨f - 1, by omega⟩
          obtain rfl : k = m + 1 := by omega
          unfold U_X12_holds_2
          have hkk := hk σ hP
          try dsimp only at hkk
          rw [faV_all m (fun j hj => hts j (by omega))] at hkk
          refine ⟨hK hP, li, hL hP, (lsL hP).2.1, U_size (lsL hP) (br_t (nI_le (Nat.le_refl _) (by have := h4.2.2.2.1; omega)) ⟨hK hP, ?_⟩)⟩
          rw [hA hP]
          exact ⟨nar_z al, hkk⟩
        | succ t ih =>
          intro f k σ ht hf hkm hts hP
          obtain ⟨f, rfl⟩ : ∃ f', f = f' + 1 := ⟨f - 1, by omega⟩
          have hm := h4.2.2.2.1
          unfold U_X12_holds_2
          refine ⟨hK hP, li, hL hP, (lsL hP).2.1, U_size (lsL hP) (br_f (nI_ge (by omega) (by omega)) ⟨hK hP, li, hL hP, (lsL hP).2.1, U_get (lsL hP) (by omega) ⟨_, rfl, hTa hP (by omega), ?_⟩⟩)⟩
          refine ev_tst H d _ _ (h5 k (by omega)) n (by omega) σ _ hP fun σ1 hP1 => ⟨hK hP1, ?_⟩
          rw [hA hP1]
          by_cases c : ts k e = al
          · refine br_t (by rw [c]) ?_
            rw [nI_1]
            exact ih f (k + 1) σ1 (by omega) (by omega) (by omega) (fun j hj => by
              by_cases z : j = k
              · subst z; exact c
              · exact hts j (by omega)) hP1
          · have hkk := hk σ1 hP1
            have c' : ts k e = !al := by revert c; cases ts k e <;> cases al <;> decide
            rw [faV_one m (by omega) c'] at hkk
            refine br_f (fun z => c ?_) ⟨hK hP1, ?_⟩
            · revert z; rw [c']; cases al <;> decide
            · cases al with
              | true => exact bn_t (by decide) hkk
              | false => exact bn_f rfl hkk
      exact Or.inl ⟨hK hP, m + 2, lp (m + 1) (m + 2) 0 σ rfl (by omega) (by omega) (fun j hj => absurd hj (by omega)) hP⟩
end CE
