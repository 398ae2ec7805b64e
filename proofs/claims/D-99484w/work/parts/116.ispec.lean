/-! PURE SIDE: an island as told. -/
def fu_ {α : Type} (f : Nat → α) (a : Nat) (v : α) : Nat → α := fun i => if i = a then v else f i
/-- how many (things, menders, trials); names (8 * kind + k); numbers (things from 0, three each; menders from 24, two each; the cat at 40); tests (stands 0, falls 1, trials from 5); sums (takes 2, fine 3, first 4) -/
abbrev Isl : Type := (Nat → Nat) × (Nat → List Nat) × (Nat → Nat) × (Nat → Option TT) × (Nat → Option VV)
def iC (I : Isl) : Nat → Nat := I.1
def iN (I : Isl) : Nat → List Nat := I.2.1
def iX (I : Isl) : Nat → Nat := I.2.2.1
def iT (I : Isl) : Nat → Option TT := I.2.2.2.1
def iV (I : Isl) : Nat → Option VV := I.2.2.2.2
def i0 : Isl := (fun _ => 0, fun _ => [], fun _ => 0, fun _ => none, fun _ => none)
def iAdd (I : Isl) (kd : Nat) (nm : List Nat) : Isl := (fu_ I.1 kd (I.1 kd + 1), fu_ I.2.1 (8 * kd + I.1 kd) nm, I.2.2)
def iSetX (I : Isl) (a v : Nat) : Isl := (I.1, I.2.1, fu_ I.2.2.1 a v, I.2.2.2)
def iSetT (I : Isl) (a : Nat) (t : TT) : Isl := (I.1, I.2.1, I.2.2.1, fu_ I.2.2.2.1 a (some t), I.2.2.2.2)
def iSetV (I : Isl) (a : Nat) (v : VV) : Isl := (I.1, I.2.1, I.2.2.1, I.2.2.2.1, fu_ I.2.2.2.2 a (some v))
def isNam (I : Isl) (nm : List Nat) : Bool := (List.range 3).any (fun kd => (List.range (iC I kd)).any (fun j => decide (iN I (8 * kd + j) = nm)))
def thingWd : List Nat := [116, 104, 105, 110, 103]
def worthWd : List Nat := [119, 111, 114, 116, 104]
def useWd : List Nat := [117, 115, 101]
def frailWd : List Nat := [102, 114, 97, 105, 108]
def menderWd : List Nat := [109, 101, 110, 100, 101, 114]
def skillWd : List Nat := [115, 107, 105, 108, 108]
def hoursWd : List Nat := [104, 111, 117, 114, 115]
def trialWd : List Nat := [116, 114, 105, 97, 108]
def standsWd : List Nat := [115, 116, 97, 110, 100, 115]
def fallsWd : List Nat := [102, 97, 108, 108, 115]
def takesWd : List Nat := [116, 97, 107, 101, 115]
def fineWd : List Nat := [102, 105, 110, 101]
def firstWd : List Nat := [102, 105, 114, 115, 116]
def catWd : List Nat := [99, 97, 116]
/-- the island's own words -/
def ownWs : List (List Nat) := [[116, 104, 105, 110, 103], [119, 111, 114, 116, 104], [117, 115, 101], [102, 114, 97, 105, 108], [109, 101, 110, 100, 101, 114], [115, 107, 105, 108, 108], [104, 111, 117, 114, 115], [116, 114, 105, 97, 108], [105, 115], [115, 116, 97, 110, 100, 115], [102, 97, 108, 108, 115], [116, 97, 107, 101, 115], [102, 105, 110, 101], [102, 105, 114, 115, 116], [99, 97, 116], [98, 114, 101, 97, 107, 115], [109, 101, 110, 100, 115], [100, 97, 121], [103, 108, 117, 101], [110, 117, 109, 98, 101, 114], [102, 111, 114, 103, 101, 100], [108, 97, 115, 116], [111, 114], [97, 110, 100], [110, 111, 116], [97, 108, 108], [109, 105, 110], [109, 97, 120]]
def isOwn (w : List Nat) : Bool := ownWs.any (fun x => decide (w = x))
def pNme (B : Byt) (n : Nat) (I : Isl) (k : Nat) : Rs (List Nat × Nat) := rsB (pWord B n k) (fun r =>
  if isOwn (wd B r.1 r.2) then .inl (1, r.1) else if 6 < r.2 - r.1 then .inl (1, r.1 + 6) else if isNam I (wd B r.1 r.2) then .inl (3, r.1) else .inr (wd B r.1 r.2, r.2))
def pKN (B : Byt) (n k : Nat) (w : List Nat) (lo hi : Nat) : Rs (Nat × Nat) := rsB (pWd B n k w) (fun q => pNum B n q lo hi)
def pTst (B : Byt) (n tk k : Nat) : Rs (TT × Nat) := pTes B n (pFac B n tk 12 0) k
def pVal (B : Byt) (n tk k : Nat) : Rs (VV × Nat) := pSum B n (pAtm B n tk 12 0) k
def pThg (B : Byt) (n : Nat) (I : Isl) (p q : Nat) : Rs (Isl × Nat) :=
  if iC I 0 = 8 then .inl (5, p) else rsB (pNme B n I q) (fun a => rsB (pKN B n a.2 worthWd 0 99) (fun b => rsB (pKN B n b.2 useWd 0 99) (fun c => rsB (pKN B n c.2 frailWd 0 9) (fun d =>
    .inr (iSetX (iSetX (iSetX (iAdd I 0 a.1) (3 * iC I 0) b.1) (3 * iC I 0 + 1) c.1) (3 * iC I 0 + 2) d.1, d.2)))))
def pMen (B : Byt) (n : Nat) (I : Isl) (p q : Nat) : Rs (Isl × Nat) :=
  if iC I 1 = 4 then .inl (5, p) else rsB (pNme B n I q) (fun a => rsB (pKN B n a.2 skillWd 0 9) (fun b => rsB (pKN B n b.2 hoursWd 1 24) (fun c =>
    .inr (iSetX (iSetX (iAdd I 1 a.1) (24 + 2 * iC I 1) b.1) (24 + 2 * iC I 1 + 1) c.1, c.2))))
def pTri (B : Byt) (n : Nat) (I : Isl) (p q : Nat) : Rs (Isl × Nat) :=
  if iC I 2 = 5 then .inl (5, p) else rsB (pNme B n I q) (fun a => rsB (pWd B n a.2 isWd) (fun b => rsB (pTst B n 1 b) (fun c => .inr (iSetT (iAdd I 2 a.1) (5 + iC I 2) c.1, c.2))))
def pLwT (B : Byt) (n : Nat) (I : Isl) (w tk p q : Nat) : Rs (Isl × Nat) := if (iT I w).isSome then .inl (5, p) else rsB (pTst B n tk q) (fun c => .inr (iSetT I w c.1, c.2))
def pLwV (B : Byt) (n : Nat) (I : Isl) (w tk p q : Nat) : Rs (Isl × Nat) := if (iV I w).isSome then .inl (5, p) else rsB (pVal B n tk q) (fun c => .inr (iSetV I w c.1, c.2))
def pBod (B : Byt) (n : Nat) (I : Isl) (w : List Nat) (p q : Nat) : Rs (Isl × Nat) :=
  if w = thingWd then pThg B n I p q else if w = menderWd then pMen B n I p q else if w = trialWd then pTri B n I p q
  else if w = standsWd then pLwT B n I 0 1 p q else if w = fallsWd then pLwT B n I 1 0 p q else if w = takesWd then pLwV B n I 2 2 p q
  else if w = fineWd then pLwV B n I 3 2 p q else if w = firstWd then pLwV B n I 4 0 p q else if w = catWd then rsB (pNum B n q 0 100) (fun c => .inr (iSetX I 40 c.1, c.2))
  else .inl (1, p)
def pStm (B : Byt) (n : Nat) (I : Isl) (k : Nat) : Rs (Isl × Nat) := rsB (pWord B n k) (fun r => rsB (pBod B n I (wd B r.1 r.2) r.1 r.2) (fun s => rsB (pMust B n s.2 59) (fun k' => .inr (s.1, k'))))
/-- all statements: the island and how many they are -/
def pIsl (B : Byt) (n : Nat) : Nat → Isl → Nat → Nat → Rs (Isl × Nat)
  | 0, I, st, _ => .inr (I, st)
  | f + 1, I, st, k => if bt B n (skp B n k) = 256 then .inr (I, st) else if st = 80 then .inl (5, skp B n k) else rsB (pStm B n I k) (fun s => pIsl B n f s.1 (st + 1) s.2)
/-- names as numbers -/
def nmL : List Nat → Int64 := fun l => l.foldl (fun v c => ((27 * v + (nI c).toInt64) - 97) + 1) 0
def nmN : List Nat → Nat := fun l => l.foldl (fun v c => 27 * v + (c - 96)) 0
def letW (l : List Nat) : Prop := (∀ c, c ∈ l → pL c = true) ∧ 0 < l.length ∧ l.length ≤ 6
theorem nmN_snoc (l : List Nat) (c : Nat) : nmN (l ++ [c]) = 27 * nmN l + (c - 96) := by simp [nmN, List.foldl_append]
theorem nmL_snoc (l : List Nat) (c : Nat) : nmL (l ++ [c]) = ((27 * nmL l + (nI c).toInt64) - 97) + 1 := by simp [nmL, List.foldl_append]
theorem snoc_ind {α : Type} {P : List α → Prop} (h0 : P []) (h1 : ∀ l c, P l → P (l ++ [c])) (l : List α) : P l := by
  rw [← List.reverse_reverse l]
  induction l.reverse with
  | nil => exact h0
  | cons c r ih => rw [List.reverse_cons]; exact h1 _ _ ih
theorem nmN_lt : ∀ (l : List Nat), (∀ c, c ∈ l → pL c = true) → nmN l < 27 ^ l.length := by
  refine snoc_ind (fun _ => by decide) (fun l c ih h => ?_)
  rw [nmN_snoc, List.length_append, List.length_singleton, Nat.pow_succ]
  have h1 := ih (fun x hx => h x (by simp [hx]))
  have h2 := h c (by simp)
  simp only [pL, decide_eq_true_eq] at h2
  omega
theorem nmN_lt6 {l : List Nat} (h : ∀ c, c ∈ l → pL c = true) (hl : l.length ≤ 6) : nmN l < 387420489 := Nat.lt_of_lt_of_le (nmN_lt l h) (Nat.le_trans (Nat.pow_le_pow_right (by omega) hl) (by decide))
theorem nmL_int : ∀ (l : List Nat), (∀ c, c ∈ l → pL c = true) → l.length ≤ 6 → (nmL l).toInt = nmN l := by
  refine snoc_ind (fun _ _ => by decide) (fun l c ih h hl => ?_)
  rw [List.length_append, List.length_singleton] at hl
  have h1 := ih (fun x hx => h x (by simp [hx])) (by omega)
  have h2 := h c (by simp)
  have h3 := nmN_lt6 (l := l) (fun x hx => h x (by simp [hx])) (by omega)
  simp only [pL, decide_eq_true_eq] at h2
  have hc : ((nI c).toInt64).toInt = c := by rw [Int32.toInt_toInt64, nI_toInt (by omega)]
  rw [nmN_snoc, nmL_snoc, Int64.toInt_add, Int64.toInt_sub, Int64.toInt_add, Int64.toInt_mul, h1, hc, show (27 : Int64).toInt = 27 by decide, show (97 : Int64).toInt = 97 by decide, show (1 : Int64).toInt = 1 by decide]
  have e1 : (27 * (nmN l : Int)).bmod (2 ^ 64) = 27 * nmN l := bm64 (by omega) (by omega)
  rw [e1]
  have e2 : (27 * (nmN l : Int) + c).bmod (2 ^ 64) = 27 * nmN l + c := bm64 (by omega) (by omega)
  rw [e2]
  have e3 : (27 * (nmN l : Int) + c - 97).bmod (2 ^ 64) = 27 * nmN l + c - 97 := bm64 (by omega) (by omega)
  rw [e3]
  have e4 : (27 * (nmN l : Int) + c - 97 + 1).bmod (2 ^ 64) = 27 * nmN l + c - 97 + 1 := bm64 (by omega) (by omega)
  rw [e4]
  omega
theorem nmN_inj : ∀ (l l' : List Nat), (∀ c, c ∈ l → pL c = true) → (∀ c, c ∈ l' → pL c = true) → nmN l = nmN l' → l = l' := by
  refine snoc_ind (fun l' _ h' e => ?_) (fun l c ih l' h h' e => ?_)
  · rcases List.eq_nil_or_concat l' with rfl | ⟨L, b, rfl⟩
    · rfl
    · rw [List.concat_eq_append] at h' e ⊢
      rw [nmN_snoc] at e
      have h2 := h' b (by simp)
      simp only [pL, decide_eq_true_eq] at h2
      have : nmN [] = 0 := rfl
      omega
  · have h1 := h c (by simp)
    simp only [pL, decide_eq_true_eq] at h1
    rcases List.eq_nil_or_concat l' with rfl | ⟨L, b, rfl⟩
    · rw [nmN_snoc] at e
      have : nmN [] = 0 := rfl
      omega
    · rw [List.concat_eq_append] at h' e ⊢
      rw [nmN_snoc, nmN_snoc] at e
      have h2 := h' b (by simp)
      simp only [pL, decide_eq_true_eq] at h2
      have e1 : nmN l = nmN L := by omega
      have e2 : c = b := by omega
      rw [ih L (fun x hx => h x (by simp [hx])) (fun x hx => h' x (by simp [hx])) e1, e2]
theorem nmL_inj {l l' : List Nat} (h : letW l) (h' : letW l') : nmL l = nmL l' ↔ l = l' := by
  constructor
  · intro e
    have e := congrArg Int64.toInt e
    rw [nmL_int l h.1 h.2.2, nmL_int l' h'.1 h'.2.2] at e
    exact nmN_inj l l' h.1 h'.1 (by omega)
  · intro e; rw [e]
