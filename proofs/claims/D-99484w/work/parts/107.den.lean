/-! PURE SIDE: what codes mean. -/
def jnL (x : Int32) (a b : Int64) : Int64 :=
  if x = 1 then hdL (a + b) else if x = 2 then hdL (a - b) else if x = 3 then hdL (a * b) else if x = 4 then (if b = 0 then 0 else fdv a b)
  else if x = 5 then (if a < b then a else b) else if x = 6 then (if b < a then a else b) else if x = 7 then b1L (decide (a < b)) else if x = 8 then b1L (decide (b < a))
  else if x = 9 then b1L (decide (a = b)) else if x = 10 then a * b else b1L (decide (0 < a + b))
def stC (e : Env) (x : Int32) (p : List Int64) : Option (List Int64) :=
  if 1000 ≤ x then some ((x - 1000).toInt64 :: p)
  else if 60 ≤ x then (match p with | a :: p => some (hdL (e.2 a) :: p) | _ => none)
  else if 40 ≤ x then some (hdL (e.1 (x - 40).toNatClampNeg) :: p)
  else if x = 13 then some (1 :: p)
  else if x = 12 then (match p with | a :: p => some ((1 - a) :: p) | _ => none)
  else (match p with | b :: a :: p => some (jnL x a b :: p) | _ => none)
def runC (e : Env) : List Int32 → List Int64 → Option (List Int64)
  | [], p => some p
  | x :: c, p => (stC e x p).bind (runC e c)
def BdL (v : Int64) : Prop := -1000000 ≤ v ∧ v ≤ 1000000
def DenV (c : List Int32) (v : VV) : Prop := (∀ e p, runC e c p = some (v e :: p)) ∧ ∀ e, BdL (v e)
def DenT (c : List Int32) (t : TT) : Prop := ∀ e p, runC e c p = some (b1L (t e) :: p)
theorem runC_app (e : Env) : ∀ (c c' : List Int32) (p q : List Int64), runC e c p = some q → runC e (c ++ c') p = runC e c' q
  | [], c', p, q, h => by
    have : p = q := Option.some.inj h
    subst this; rfl
  | x :: c, c', p, q, h => by
    show (stC e x p).bind (runC e (c ++ c')) = _
    have h : (stC e x p).bind (runC e c) = some q := h
    cases hs : stC e x p with
    | none => rw [hs] at h; cases h
    | some r =>
      rw [hs] at h
      exact runC_app e c c' r q h
theorem runC_1 {e : Env} {x : Int32} {p q : List Int64} (h : stC e x p = some q) : runC e [x] p = some q := by
  show (stC e x p).bind (runC e []) = _
  rw [h]; rfl
theorem hdL_bd (v : Int64) : BdL (hdL v) := by
  unfold BdL hdL mxL mnL
  by_cases h1 : v < 1000000
  · rw [if_pos h1]
    by_cases h2 : -1000000 < v
    · rw [if_pos h2]; exact ⟨Int64.le_of_lt h2, Int64.le_of_lt h1⟩
    · rw [if_neg h2]; exact ⟨Int64.le_refl _, by decide⟩
  · rw [if_neg h1, if_pos (by decide)]; exact ⟨by decide, Int64.le_refl _⟩
theorem hdL_id {v : Int64} (h : BdL v) : hdL v = v := by
  obtain ⟨h1, h2⟩ := h
  unfold hdL mxL mnL
  by_cases h3 : v < 1000000
  · rw [if_pos h3]
    by_cases h4 : -1000000 < v
    · rw [if_pos h4]
    · rw [if_neg h4]; exact Int64.le_antisymm h1 (Int64.not_lt.mp h4)
  · rw [if_neg h3, if_pos (by decide)]; exact Int64.le_antisymm (Int64.not_lt.mp h3) h2
/-- a sum's part: a number -/
theorem DenV.num {x : Nat} (h : x ≤ 9999) : DenV [nI (1000 + x)] (fun _ => (nI x).toInt64) := by
  constructor
  · intro e p
    refine runC_1 ?_
    unfold stC
    rw [if_pos (show (1000 : Int32) ≤ nI (1000 + x) from nI_le (a := 1000) (by omega) (by omega))]
    have : nI (1000 + x) - 1000 = nI x := by
      show nI (1000 + x) - nI 1000 = _
      rw [nI_sub (by omega), Nat.add_sub_cancel_left]
    rw [this]
  · intro e
    refine ⟨?_, ?_⟩
    · show (-1000000 : Int64) ≤ (nI x).toInt64
      rw [Int64.le_iff_toInt_le, Int32.toInt_toInt64, nI_toInt (by omega)]
      show (-1000000 : Int) ≤ _
      omega
    · show (nI x).toInt64 ≤ (1000000 : Int64)
      rw [Int64.le_iff_toInt_le, Int32.toInt_toInt64, nI_toInt (by omega)]
      show _ ≤ (1000000 : Int)
      omega
theorem DenV.part {j : Nat} (h : j < 10) : DenV [nI (40 + j)] (fun e => hdL (e.1 j)) := by
  constructor
  · intro e p
    refine runC_1 ?_
    unfold stC
    rw [if_neg (show ¬ (1000 : Int32) ≤ nI (40 + j) from nI_ge (a := 40 + j) (b := 1000) (by omega) (by omega)), if_neg (show ¬ (60 : Int32) ≤ nI (40 + j) from nI_ge (a := 40 + j) (b := 60) (by omega) (by omega)), if_pos (show (40 : Int32) ≤ nI (40 + j) from nI_le (a := 40) (by omega) (by omega))]
    have : nI (40 + j) - 40 = nI j := by
      show nI (40 + j) - nI 40 = _
      rw [nI_sub (by omega), Nat.add_sub_cancel_left]
    rw [this, nI_clamp (by omega)]
  · intro e; exact hdL_bd _
theorem DenV.look {c : List Int32} {v : VV} (h : DenV c v) : DenV (c ++ [60]) (fun e => hdL (e.2 (v e))) := by
  refine ⟨fun e p => ?_, fun e => hdL_bd _⟩
  rw [runC_app e c _ p _ (h.1 e p)]
  rfl
def opC (s : Nat) : Int32 := if s = 42 then 3 else if s = 43 then 1 else if s = 45 then 2 else 4
theorem bm64 {x : Int} (h1 : -9223372036854775808 ≤ x) (h2 : x < 9223372036854775808) : x.bmod (2 ^ 64) = x := Int.bmod_eq_of_le_mul_two (by omega) (by omega)
theorem BdL.int {v : Int64} : BdL v ↔ -1000000 ≤ v.toInt ∧ v.toInt ≤ 1000000 := by
  unfold BdL
  rw [Int64.le_iff_toInt_le, Int64.le_iff_toInt_le, show (-1000000 : Int64).toInt = -1000000 by decide, show (1000000 : Int64).toInt = 1000000 by decide]
theorem fdv_bd {a b : Int64} (h : BdL a) (hb : b ≠ 0) : BdL (fdv a b) := by
  have hA := BdL.int.mp h
  have hmin : a ≠ Int64.minValue := by
    intro z
    have := congrArg Int64.toInt z
    rw [show Int64.minValue.toInt = -9223372036854775808 by decide] at this
    omega
  have hq : (a / b).toInt = a.toInt.tdiv b.toInt := Int64.toInt_div_of_ne_left a b hmin
  have hle := Int.natAbs_tdiv_le_natAbs a.toInt b.toInt
  have hbd : BdL (a / b) := by
    rw [BdL.int, hq]; omega
  unfold fdv
  by_cases h1 : 0 ≤ (a ^^^ b)
  · rw [if_pos h1]; exact hbd
  · rw [if_neg h1]
    by_cases h2 : a / b * b = a
    · rw [if_pos h2]; exact hbd
    · rw [if_neg h2]
      have hb2 : 2 ≤ b.toInt.natAbs := by
        by_cases hz : b.toInt = 0
        · exact absurd (Int64.toInt_inj.mp (by rw [hz]; rfl)) hb
        · by_cases h1 : b.toInt = 1
          · exfalso; apply h2
            apply Int64.toInt_inj.mp
            rw [Int64.toInt_mul, hq, h1, Int.tdiv_one, Int.mul_one]
            exact bm64 (by omega) (by omega)
          · by_cases h1 : b.toInt = -1
            · exfalso; apply h2
              apply Int64.toInt_inj.mp
              rw [Int64.toInt_mul, hq, h1, Int.tdiv_neg, Int.tdiv_one, Int.neg_mul_neg, Int.mul_one]
              exact bm64 (by omega) (by omega)
            · omega
      have h5 : (a.toInt.tdiv b.toInt).natAbs ≤ 500000 := by
        rw [Int.natAbs_tdiv]
        show a.toInt.natAbs / b.toInt.natAbs ≤ 500000
        have h6 : a.toInt.natAbs ≤ 1000000 := by omega
        calc a.toInt.natAbs / b.toInt.natAbs ≤ a.toInt.natAbs / 2 := Nat.div_le_div_left hb2 (by omega)
          _ ≤ 500000 := by omega
      rw [BdL.int, Int64.toInt_sub, hq, show (1 : Int64).toInt = 1 by decide, bm64 (by omega) (by omega)]
      omega
theorem DenV.two {c c' : List Int32} {v w : VV} {s : Nat} (hs : s = 42 ∨ s = 43 ∨ s = 45 ∨ s = 47) (h : DenV c v) (h' : DenV c' w) : DenV (c ++ c' ++ [opC s]) (fun e => hdL (twoL s (v e) (w e))) := by
  refine ⟨fun e p => ?_, fun e => hdL_bd _⟩
  rw [runC_app e (c ++ c') _ p (w e :: v e :: p) (by rw [runC_app e c c' p _ (h.1 e p)]; exact h'.1 e _)]
  rcases hs with hs | hs | hs | hs <;> subst hs
  · rfl
  · rfl
  · rfl
  · show some ((if w e = 0 then 0 else fdv (v e) (w e)) :: p) = some (hdL (if w e = 0 then 0 else fdv (v e) (w e)) :: p)
    by_cases hz : w e = 0
    · rw [if_pos hz]; rfl
    · rw [if_neg hz, hdL_id (fdv_bd (h.2 e) hz)]
theorem DenV.min {c c' : List Int32} {v w : VV} (h : DenV c v) (h' : DenV c' w) : DenV (c ++ c' ++ [5]) (fun e => if v e ≤ w e then v e else w e) := by
  refine ⟨fun e p => ?_, fun e => ?_⟩
  · rw [runC_app e (c ++ c') _ p (w e :: v e :: p) (by rw [runC_app e c c' p _ (h.1 e p)]; exact h'.1 e _)]
    show some ((if v e < w e then v e else w e) :: p) = some ((if v e ≤ w e then v e else w e) :: p)
    by_cases h1 : v e < w e
    · rw [if_pos h1, if_pos (Int64.le_of_lt h1)]
    · rw [if_neg h1]
      by_cases h2 : v e ≤ w e
      · rw [if_pos h2, Int64.le_antisymm h2 (Int64.not_lt.mp h1)]
      · rw [if_neg h2]
  · dsimp only
    split
    · exact h.2 e
    · exact h'.2 e
theorem DenV.max {c c' : List Int32} {v w : VV} (h : DenV c v) (h' : DenV c' w) : DenV (c ++ c' ++ [6]) (fun e => if v e ≤ w e then w e else v e) := by
  refine ⟨fun e p => ?_, fun e => ?_⟩
  · rw [runC_app e (c ++ c') _ p (w e :: v e :: p) (by rw [runC_app e c c' p _ (h.1 e p)]; exact h'.1 e _)]
    show some ((if w e < v e then v e else w e) :: p) = some ((if v e ≤ w e then w e else v e) :: p)
    by_cases h1 : w e < v e
    · rw [if_pos h1, if_neg (Int64.not_le.mpr h1)]
    · rw [if_neg h1, if_pos (Int64.not_lt.mp h1)]
  · dsimp only
    split
    · exact h'.2 e
    · exact h.2 e
theorem DenT.all : DenT [13] (fun _ => true) := fun e p => rfl
theorem DenT.not {c : List Int32} {t : TT} (h : DenT c t) : DenT (c ++ [12]) (fun e => !(t e)) := by
  intro e p
  rw [runC_app e c _ p _ (h e p)]
  show some ((1 - b1L (t e)) :: p) = some (b1L (!(t e)) :: p)
  cases t e <;> rfl
theorem DenT.and {c c' : List Int32} {t u : TT} (h : DenT c t) (h' : DenT c' u) : DenT (c ++ c' ++ [10]) (fun e => t e && u e) := by
  intro e p
  rw [runC_app e (c ++ c') _ p (b1L (u e) :: b1L (t e) :: p) (by rw [runC_app e c c' p _ (h e p)]; exact h' e _)]
  show some ((b1L (t e) * b1L (u e)) :: p) = some (b1L (t e && u e) :: p)
  cases t e <;> cases u e <;> rfl
theorem DenT.or {c c' : List Int32} {t u : TT} (h : DenT c t) (h' : DenT c' u) : DenT (c ++ c' ++ [11]) (fun e => t e || u e) := by
  intro e p
  rw [runC_app e (c ++ c') _ p (b1L (u e) :: b1L (t e) :: p) (by rw [runC_app e c c' p _ (h e p)]; exact h' e _)]
  show some (b1L (decide (0 < b1L (t e) + b1L (u e))) :: p) = some (b1L (t e || u e) :: p)
  cases t e <;> cases u e <;> rfl
def cmpC (s : Nat) : Int32 := if s = 60 then 7 else if s = 62 then 8 else 9
theorem DenT.cmp {c c' : List Int32} {v w : VV} {s : Nat} (hs : s = 60 ∨ s = 62 ∨ s = 61) (h : DenV c v) (h' : DenV c' w) : DenT (c ++ c' ++ [cmpC s]) (fun e => cmpL s (v e) (w e)) := by
  intro e p
  rw [runC_app e (c ++ c') _ p (w e :: v e :: p) (by rw [runC_app e c c' p _ (h.1 e p)]; exact h'.1 e _)]
  rcases hs with hs | hs | hs <;> subst hs <;> rfl
