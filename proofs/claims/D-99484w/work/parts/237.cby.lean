/-! COMPONENT, PURE SIDE: the days on which a thing breaks, as a set. -/
abbrev oL (v : Nat) : Int64 := Int64.ofNat v
theorem or_oL (v u : Nat) : oL v ||| oL u = oL (v ||| u) := by
  apply Int64.toBitVec_inj.1
  rw [Int64.toBitVec_or]
  show BitVec.ofNat 64 v ||| BitVec.ofNat 64 u = BitVec.ofNat 64 (v ||| u)
  exact (BitVec.ofNat_or).symm
theorem sh1_L : ∀ d, d < 31 → (1 : Int64) <<< (Int32.toInt64 (nI d) &&& 63) = oL (2 ^ d) := by decide +kernel
theorem or_L {v d : Nat} (hd : d < 31) (hv : v < 2 ^ d) : oL v ||| (1 <<< (Int32.toInt64 (nI d) &&& 63)) = oL (v + 2 ^ d) := by
  rw [sh1_L d hd, or_oL, Nat.or_comm]
  congr 1
  have := Nat.two_pow_add_eq_or_of_lt (i := d) hv 1
  rw [Nat.mul_one] at this
  omega
/-- days as a set, the first is 1 -/
def dyN (p : Nat → Bool) (n : Nat) : Nat := setN (fun d => decide (1 ≤ d) && p d) (n + 1)
theorem dyN_lt (p : Nat → Bool) (n : Nat) : dyN p n < 2 ^ (n + 1) := setN_lt _ _
theorem dyN_bit (p : Nat → Bool) (n d : Nat) : (dyN p n).testBit d = (decide (1 ≤ d ∧ d ≤ n) && p d) := by
  unfold dyN
  rw [setN_bit]
  by_cases h : 1 ≤ d ∧ d ≤ n
  · rw [decide_eq_true h, decide_eq_true (p := d < n + 1) (by omega), decide_eq_true (p := 1 ≤ d) h.1]; rfl
  · rw [decide_eq_false h]
    by_cases h1 : d < n + 1
    · rw [decide_eq_false (p := 1 ≤ d) (by omega)]; cases decide (d < n + 1) <;> rfl
    · rw [decide_eq_false h1]; rfl
section CBy
variable {σ σ' : CS} {a : AS} {n t f k : Nat} {I : Isl} {s : St} {fl : Int32 × Int32}
theorem DyB.frail (h : DyB σ 74 I fl s) {x y : Int32} : DyB (wI (wI σ 74 9 x) 74 10 y) 74 I (x, y) s := by
  obtain ⟨⟨a1, a2, a3, a4, -⟩, ⟨c1, c2, c3, c4⟩, b2, b3, b4⟩ := h
  have ag : ∀ i, i ≠ 74 → agr σ (wI (wI σ 74 9 x) 74 10 y) i := fun i hi => ((agr.refl σ i).wI hi).wI hi
  have g : ∀ j, j ≠ 9 → j ≠ 10 → gI (wI (wI σ 74 9 x) 74 10 y) 74 j = gI σ 74 j := fun j h1 h2 => by rw [gI_wn (by omega), gI_wn (by omega)]
  have sA : StA (wI (wI σ 74 9 x) 74 10 y) 74 s.1 := by
    refine ⟨by rw [g 0 (by omega) (by omega)]; exact c1.1, fun t ht => ?_⟩
    rw [(ag (74 + 1) (by omega)).2.1, (ag (74 + 2) (by omega)).2.1, (ag (74 + 3) (by omega)).2.1, (ag (74 + 4) (by omega)).2.1, (ag (74 + 5) (by omega)).2.1]
    exact c1.2 t ht
  refine ⟨⟨a1.fr rfl (fun i hi => ag i (by have := dyn_not hi; omega)) (Nat.le_refl _), a2, a3, sA, ?_, fun _ => gI_ws⟩, ⟨sA, by rw [g 1 (by omega) (by omega)]; exact c2, c3, c4.fr c3 (fun i h1 h2 => ag i (by omega))⟩, b2, b3, b4⟩
  rw [gI_wn (by omega)]; exact gI_ws
theorem co_breaksBy {K : Int64 → CS → Prop} (h : RC a σ) (ha : AOK a) (ht : t < iC (aI a) 0) (hn : n ≤ 30) (hk : ∀ σ', RC a σ' → FrX (stP 74) σ σ' → K (oL (dyN (fun d => br1 a t f d) n)) σ') : U_X0_breaksBy σ (nI t) (nI f) (nI n) K := by
  have hb := ha.ib
  have hc := hb.1
  have hd0 := ha.2.1.1
  unfold U_X0_breaksBy
  refine cb_copy h.sta (Or.inr (Or.inl rfl)) (Or.inl rfl) (Or.inr (by omega)) h.2.2.2.2.1.1 (fun t ht => (ha.2.1.2.1 t ht).2.2.2.2) h.2.2.2.2.2.1 fun σ1 f1 s1 e1 => ?_
  have r1 := h.tr f1 (fun i z => Or.inr z) s1.rw0
  have d1 : DyB σ1 74 (aI a) (-1, 0) (aS a) := ⟨⟨r1.is, ha.ib, by omega, s1.1, e1, fun z => absurd rfl z⟩, s1, ha.2.1.bd, r1.sta, Or.inr (Or.inl rfl)⟩
  refine st_ (st_ ⟨n + 1, ?_⟩)
  have d2 := d1.frail (x := nI t) (y := nI f)
  have g1 : FrX (stP 74) σ σ1 := f1.mono (fun i z => Or.inr z)
  have g2 : FrX (stP 74) σ (wI (wI σ1 74 9 (nI t)) 74 10 (nI f)) := by
    refine FrX.wI (FrX.wI g1 ?_) ?_ <;> exact Or.inr ⟨by omega, by omega⟩
  have hinv := fun n => spDays_inv (fr := (nI t, nI f)) ha.1 ha.2.1.w n
  have lp : ∀ (d g k : Nat) (σ' : CS), n - k = d → d < g → k ≤ n → FrX (stP 74) σ σ' → DyB σ' 74 (aI a) (nI t, nI f) (spDays (aI a) (nI t, nI f) k (aS a)).2 → U_X0_breaksBy_34 K (nI t) (nI n) g (oL (dyN (fun d => br1 a t f d) k)) (nI (k + 1)) σ' := by
    intro d
    induction d with
    | zero =>
      intro g k σ' hd hg hkn f' d'
      obtain ⟨g, rfl⟩ : ∃ f', g = f' + 1 := ⟨g - 1, by omega⟩
      obtain rfl : k = n := by omega
      unfold U_X0_breaksBy_34
      have f'' : FrX (stP 74) σ (wI σ' 74 9 (-1)) := by
        refine FrX.wI f' ?_
        exact Or.inr ⟨by omega, by omega⟩
      refine br_t (nI_lt (by omega) (by omega)) (st_ (hk _ (h.tr f'' (fun i z => ?_) (d'.2.1.rw0.fr (by omega) (fun i h1 h2 => (agr.refl σ' i).wI (by omega)))) f''))
      rcases z with z | z
      · exact Or.inl (by unfold scC; omega)
      · exact Or.inr z
    | succ d ih =>
      intro g k σ' hd hg hkn f' d'
      obtain ⟨g, rfl⟩ : ∃ f', g = f' + 1 := ⟨g - 1, by omega⟩
      unfold U_X0_breaksBy_34
      have hday := (hinv k).2
      refine br_f (nI_nlt (by omega) (by omega)) (cb_day ha.1 (ha.2.2.2.1 _) (by omega) d' fun σ3 d3 f3 e8 => ?_)
      rw [e8]
      have eb : br1 a t f (k + 1) = (spDay (aI a) (nI t, nI f) (spDays (aI a) (nI t, nI f) k (aS a)).2).1.testBit t := rfl
      have es : dyN (fun d => br1 a t f d) (k + 1) = dyN (fun d => br1 a t f d) k + (if br1 a t f (k + 1) = true then 2 ^ (k + 1) else 0) := by
        show setN _ (k + 1 + 1) = _
        rw [setN_s]
        rw [decide_eq_true (by omega), Bool.true_and]; rfl
      have nx := ih g (k + 1) σ3 (by omega) (by omega) (by omega) (f'.trans f3) d3
      rw [es, eb] at nx
      refine cb_hasS (setN_256 _ hc) (by omega) (br_b _ (fun e => ?_) (fun e => ?_))
      · rw [e, if_neg (by decide), Nat.add_zero] at nx
        rw [nI_1]; exact nx
      · rw [e, if_pos rfl] at nx
        rw [nI_1, or_L (by omega) (dyN_lt _ k)]; exact nx
  exact lp n _ 0 _ rfl (by omega) (by omega) g2 d2
end CBy
