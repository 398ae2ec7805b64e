/-! PURE SIDE: has, feed, end, seed, letter; the model's. -/
def fdW (x1 x2 x3 x4 x5 : Int32) (k : Nat) : Int32 := if k < 4 then x1 else if k < 8 then x2 else if k < 12 then x3 else if k < 16 then x4 else x5
def fdB (x1 x2 x3 x4 x5 : Int32) (k : Nat) : Nat := ((fdW x1 x2 x3 x4 x5 k >>> (nI (8 * (3 - k % 4)) &&& 31)) &&& 255).toBitVec.toNat
def sp_feed (a : AS) (x1 x2 x3 x4 x5 : Int32) : Int32 × AS :=
  if aTn a + 20 ≤ 1600 then (nI (aTn a + 20), (fun i => if aTn a ≤ i ∧ i < aTn a + 20 then fdB x1 x2 x3 x4 x5 (i - aTn a) else aTp a i), aTn a + 20, aFk a, aFp a, aRf a, aI a, aS a, aU a, aSd a, aOu a, aOn a)
  else (-1, aRef a 0)
def sp_end (a : AS) (x : Int32) : Int32 × AS := if inR x 0 (aTn a) then (1, aTp a, ix x, aFk a, aFp a, aRf a, aI a, aS a, aU a, aSd a, aOu a, aOn a) else (0, aRef a 0)
def sp_seed (a : AS) (x : Int32) : Int32 × AS := if x < 0 then (0, aRef a 5) else (1, aTp a, aTn a, aFk a, aFp a, aRf a, aI a, aS a, aU a, x.toInt64, aOu a, aOn a)
def sp_letter (a : AS) (x y z : Int32) : Int32 := if inR x 0 2 && (inR y 0 ((iC (aI a) (ix x) : Int) - 1) && inR z 0 5) then (if ix z < (iN (aI a) (8 * ix x + ix y)).length then nI ((iN (aI a) (8 * ix x + ix y)).getD (ix z) 0 - 96) else 0) else -1
def cntP (p : Nat → Bool) (n : Nat) : Nat := lpN (fun t a => a + (if p t then 1 else 0)) n 0
theorem cntP_set {p : Nat → Bool} {n : Nat} : ∀ k, k ≤ n → cntT (setN p n) k = cntP p k
  | 0, _ => rfl
  | k + 1, h => by
    show cntT (setN p n) k + (if (setN p n).testBit k then 1 else 0) = cntP p k + (if p k then 1 else 0)
    rw [cntP_set k (by omega), setN_bit, decide_eq_true (by omega), Bool.true_and]
theorem cntP_bc {p : Nat → Bool} {n : Nat} (hn : n ≤ 8) : cntP p n = bcN (setN p n) := by
  rw [← cntP_set n (Nat.le_refl _), cntT_bc hn (fun t ht => by rw [setN_bit, decide_eq_false (by omega), Bool.false_and])]
section TO2
variable {a : AS} {τ τ' : Sto} {K : Int32 → Sto → Prop}
theorem T_forgedMany_law {I : Isl} {fr : Int32 × Int32} {s : Nat → Nat} (h : EvC I fr s τ) (hk : K (nI (bcN (setN (fun t => decide (s (5 + 5 * t) = 1)) (iC I 0)))) τ) : T_forgedMany τ K := by
  have hc := h.c
  refine ⟨iC I 0 + 1, ?_⟩
  have lp : ∀ (d f t : Nat), iC I 0 - t = d → d < f → t ≤ iC I 0 → T_forgedMany_4 K f (nI (cntP (fun t => decide (s (5 + 5 * t) = 1)) t)) (nI t) τ := by
    intro d
    induction d with
    | zero =>
      intro f t hd hf ht
      obtain ⟨f, rfl⟩ : ∃ f', f = f' + 1 := ⟨f - 1, by omega⟩
      obtain rfl : t = iC I 0 := by omega
      unfold T_forgedMany_4
      rw [cntP_bc hc.1]
      exact T_thingMany_law h (br_t (nI_le (by omega) (by omega)) hk)
    | succ d ih =>
      intro f t hd hf ht
      obtain ⟨f, rfl⟩ : ∃ f', f = f' + 1 := ⟨f - 1, by omega⟩
      unfold T_forgedMany_4
      have hb := h.2.2.2.1.2.2 t (by omega)
      refine T_thingMany_law h (br_f (nI_ge (by omega) (by omega)) (T_isForged_law h (by omega) ?_))
      have hn := ih f (t + 1) (by omega) (by omega) (by omega)
      have es : cntP (fun t => decide (s (5 + 5 * t) = 1)) (t + 1) = cntP (fun t => decide (s (5 + 5 * t) = 1)) t + (if decide (s (5 + 5 * t) = 1) = true then 1 else 0) := rfl
      rw [nI_1, nI_1]
      by_cases e : s (5 + 5 * t) = 1
      · rw [decide_eq_true e, if_pos rfl] at es
        rw [es] at hn
        rw [e]
        exact br_f (by decide) hn
      · rw [decide_eq_false e, if_neg (by decide), Nat.add_zero] at es
        rw [es] at hn
        rw [show s (5 + 5 * t) = 0 by omega]
        exact br_t rfl hn
  exact lp (iC I 0) _ 0 rfl (by omega) (by omega)
theorem T_has_law {x : Int32} (h : RT a τ) (hk : ∀ τ', RT a τ' → K (sp_has a x) τ') : T_has τ x K := by
  have hc := h.ev.c
  have hk0 := hk τ h
  obtain ⟨s1, s2⟩ := h.2.2.2.2.1
  obtain ⟨u1, u2, -⟩ := h.2.2.2.2.2.1
  have h41 := s2.2.1
  rw [Nat.zero_add] at h41
  unfold T_has
  unfold sp_has at hk hk0
  by_cases c0 : x = 0
  · rw [if_pos c0] at hk0; subst c0
    exact br_t rfl ⟨vi_ (i := 3) (by omega) (by omega), by rw [show τ.1 40 (Int32.toNatClampNeg (3 + 0)) = _ from h.ev.n0]; exact hk0⟩
  rw [if_neg c0] at hk hk0
  refine br_f c0 ?_
  by_cases c1 : x = 1
  · rw [if_pos c1] at hk0; subst c1
    exact br_t rfl ⟨vi_ (i := 4) (by omega) (by omega), by rw [show τ.1 40 (Int32.toNatClampNeg (3 + 1)) = _ from h.ev.n1]; exact hk0⟩
  rw [if_neg c1] at hk hk0
  refine br_f c1 ?_
  by_cases c2 : x = 2
  · rw [if_pos c2] at hk0; subst c2
    exact br_t rfl ⟨vi_ (i := 5) (by omega) (by omega), by rw [show τ.1 40 (Int32.toNatClampNeg (3 + 2)) = _ from h.ev.n2]; exact hk0⟩
  rw [if_neg c2] at hk hk0
  refine br_f c2 ?_
  by_cases c3 : x = 3
  · rw [if_pos c3] at hk0
    exact br_t c3 ⟨vi_ (i := 0) (by omega) (by omega), by rw [show τ.1 52 (Int32.toNatClampNeg 0) = _ from h.ev.st_ (i := 0) (by omega)]; exact hk0⟩
  rw [if_neg c3] at hk hk0
  refine br_f c3 ?_
  by_cases c4 : x = 4
  · rw [if_pos c4] at hk0
    exact br_t c4 (T_setOf_law (x := 1) rfl (by omega) h.ev (T_bits_law (setN_256 _ hc.1) hk0))
  rw [if_neg c4] at hk hk0
  refine br_f c4 ?_
  by_cases c5 : x = 5
  · rw [if_pos c5] at hk0
    exact br_t c5 (T_setOf_law (x := 2) rfl (by omega) h.ev (T_bits_law (setN_256 _ hc.1) hk0))
  rw [if_neg c5] at hk hk0
  refine br_f c5 ?_
  by_cases c6 : x = 6
  · rw [if_pos c6] at hk
    exact br_t c6 (T_standSet_law h.ev fun τ' f => T_bits_law (setN_256 _ hc.1) (hk τ' (h.frE f)))
  rw [if_neg c6] at hk hk0
  refine br_f c6 ?_
  by_cases c7 : x = 7
  · rw [if_pos c7] at hk0
    exact br_t c7 (T_forgedMany_law h.ev hk0)
  rw [if_neg c7] at hk hk0
  refine br_f c7 ?_
  by_cases c8 : x = 8
  · rw [if_pos c8] at hk
    exact br_t c8 (T_standSet_law h.ev fun τ' f => T_useBy_law (h.ev.fr_ f) (setN_256 _ hc.1) (hk τ' (h.frE f)))
  rw [if_neg c8] at hk hk0
  refine br_f c8 ?_
  by_cases c9 : x = 9
  · rw [if_pos c9] at hk0
    exact br_t c9 ⟨vi_ (i := 41) (by omega) (by omega), by rw [show τ.1 52 (Int32.toNatClampNeg 41) = _ from h41]; exact hk0⟩
  rw [if_neg c9] at hk hk0
  refine br_f c9 ?_
  by_cases c10 : x = 10
  · rw [if_pos c10] at hk0
    exact br_t c10 (by rw [u2]; exact hk0)
  rw [if_neg c10] at hk0
  exact br_f c10 hk0
theorem and255 (x : Int32) : x &&& 255 = nI (x &&& 255).toBitVec.toNat ∧ (x &&& 255).toBitVec.toNat < 256 := by
  constructor
  · apply Int32.toBitVec_inj.1
    show (x &&& 255).toBitVec = BitVec.ofNat 32 (x &&& 255).toBitVec.toNat
    simp
  · rw [Int32.toBitVec_and, BitVec.toNat_and]
    exact Nat.lt_of_le_of_lt Nat.and_le_right (by decide)
theorem fd_sh : ∀ k, k < 20 → (8 : Int32) * (3 - (nI k - nI k / 4 * 4)) &&& 31 = nI (8 * (3 - k % 4)) &&& 31 := by decide +kernel
/-- the tape moves, its length too -/
theorem RT.tape {B : Byt} {n : Nat} (h : RT a τ) (hn : n ≤ 1600) (hB : ∀ i, B i < 256) (e : ∀ i j, i ≠ 1 → ¬ (i = 0 ∧ j = 1) → τ'.1 i j = τ.1 i j) (el : τ'.2.1 = τ.2.1) (e1 : τ'.1 0 1 = nI n) (e2 : ∀ i, i < 1600 → τ'.1 1 i = nI (B i)) : RT (B, n, a.2.2) τ' := by
  obtain ⟨⟨a1, a2, a3, a4⟩, ⟨b1, b2, b3⟩, c, ⟨d1, d2, d3⟩, ⟨s1, s2⟩, ⟨u1, u2, nw, u3, u4, u5⟩, ⟨g1, g2⟩, ⟨o1, o2, o3⟩, ⟨f1, f2, cc, f3, f4⟩⟩ := h
  refine ⟨⟨hn, e1, e2, hB⟩, ⟨by rw [e _ _ (by omega) (by omega)]; exact b1, by rw [e _ _ (by omega) (by omega)]; exact b2, fun i hi => by rw [e _ _ (by omega) (by omega)]; exact b3 i hi⟩, fun p hp i hi => ?_, ⟨d1, d2.congr (fun i j hi => e i j (by omega) (by omega)) (fun j => by rw [el]), by rw [e _ _ (by omega) (by omega)]; exact d3⟩, ⟨s1, s2.mv s1 (fun j hj => e _ _ (by omega) (by omega))⟩, ⟨u1, by rw [e _ _ (by omega) (by omega)]; exact u2, nw, u3, by rw [e _ _ (by omega) (by omega)]; exact u4, fun j s hj => ⟨(u5 j s hj).1, (u5 j s hj).2.mv (u5 j s hj).1 (fun j hj => e _ _ (by omega) (by omega))⟩⟩, ⟨by rw [el]; exact g1, g2⟩, ⟨o1, by rw [e _ _ (by omega) (by omega)]; exact o2, fun i hi => ⟨by rw [e _ _ (by omega) (by omega)]; exact (o3 i hi).1, (o3 i hi).2⟩⟩, ⟨by rw [e _ _ (by omega) (by omega)]; exact f1, by rw [e _ _ (by omega) (by omega)]; exact f2, cc, f3, by rw [e _ _ (by omega) (by omega)]; exact f4⟩⟩
  have : ∀ p, p ∈ wTab → p.1 ≠ 0 ∧ p.1 ≠ 1 := by decide
  rw [e _ _ (this p hp).2 (by have := (this p hp).1; omega)]; exact c p hp i hi
theorem T_feed_law {x1 x2 x3 x4 x5 : Int32} (h : RT a τ) (hk : ∀ τ', RT (sp_feed a x1 x2 x3 x4 x5).2 τ' → K (sp_feed a x1 x2 x3 x4 x5).1 τ') : T_feed τ x1 x2 x3 x4 x5 K := by
  have hR := h
  obtain ⟨⟨a1, a2, a3, a4⟩, -⟩ := h
  unfold T_feed
  rw [a2, show nI (aTn a) + 20 = nI (aTn a + 20) from nI_add _ 20]
  by_cases hc : aTn a + 20 ≤ 1600
  · have hsp : sp_feed a x1 x2 x3 x4 x5 = (nI (aTn a + 20), (fun i => if aTn a ≤ i ∧ i < aTn a + 20 then fdB x1 x2 x3 x4 x5 (i - aTn a) else aTp a i), aTn a + 20, aFk a, aFp a, aRf a, aI a, aS a, aU a, aSd a, aOu a, aOn a) := by unfold sp_feed; rw [if_pos hc]
    rw [hsp] at hk
    refine br_t (show nI _ ≤ nI 1600 from nI_le hc (by omega)) ⟨21, ?_⟩
    have lp : ∀ (d f k : Nat) (τ' : Sto), 20 - k = d → d < f → k ≤ 20 → (∀ i j, i ≠ 1 → ¬ (i = 0 ∧ j = 1) → τ'.1 i j = τ.1 i j) → τ'.2.1 = τ.2.1 → τ'.1 0 1 = nI (aTn a + k) → (∀ i, i < 1600 → τ'.1 1 i = nI (if aTn a ≤ i ∧ i < aTn a + k then fdB x1 x2 x3 x4 x5 (i - aTn a) else aTp a i)) → T_feed_28 K x1 x2 x3 x4 x5 f (nI k) τ' := by
      intro d
      induction d with
      | zero =>
        intro f k τ' hd hf hk20 e el e1 e2
        obtain ⟨f, rfl⟩ : ∃ f', f = f' + 1 := ⟨f - 1, by omega⟩
        obtain rfl : k = 20 := by omega
        unfold T_feed_28
        rw [e1]
        refine br_t (by decide) (hk τ' (hR.tape (by omega) (fun i => ?_) e el e1 e2))
        split
        · exact (and255 _).2
        · exact a4 i
      | succ d ih =>
        intro f k τ' hd hf hk20 e el e1 e2
        obtain ⟨f, rfl⟩ : ∃ f', f = f' + 1 := ⟨f - 1, by omega⟩
        have fin : T_feed_81 K (T_feed_28 K x1 x2 x3 x4 x5 f) x1 x2 x3 x4 x5 (nI k) (fdW x1 x2 x3 x4 x5 k) τ' := by
          unfold T_feed_81
          rw [e1, nI_clamp (by omega), fd_sh k (by omega), nI_1]
          refine ⟨vi_ (by omega) (by omega), st_ (st_ ?_)⟩
          rw [sI_neI (by omega), e1, nI_1]
          refine ih f (k + 1) _ (by omega) (by omega) (by omega) (fun i j hi hij => ?_) el (sI_same ..) (fun i hi => ?_)
          · rw [sI_ne (by omega), sI_neI (by omega)]; exact e i j hi hij
          · rw [sI_neI (by omega)]
            by_cases c : i = aTn a + k
            · subst c
              rw [sI_same, if_pos ⟨by omega, by omega⟩, Nat.add_sub_cancel_left]
              exact (and255 _).1
            · rw [sI_ne (by omega), e2 i hi]
              by_cases c2 : aTn a ≤ i ∧ i < aTn a + k
              · rw [if_pos c2, if_pos ⟨c2.1, by omega⟩]
              · rw [if_neg c2, if_neg (by omega)]
        unfold fdW at fin
        unfold T_feed_28
        refine br_f (show ¬ nI 20 ≤ nI k from nI_ge (by omega) (by omega)) ?_
        by_cases k4 : k < 4
        · rw [if_pos k4] at fin
          exact br_f (show ¬ nI 4 ≤ nI k from nI_ge (by omega) (by omega)) fin
        rw [if_neg k4] at fin
        refine br_t (show nI 4 ≤ nI k from nI_le (by omega) (by omega)) ?_
        by_cases k8 : k < 8
        · rw [if_pos k8] at fin
          exact br_f (show ¬ nI 8 ≤ nI k from nI_ge (by omega) (by omega)) fin
        rw [if_neg k8] at fin
        refine br_t (show nI 8 ≤ nI k from nI_le (by omega) (by omega)) ?_
        by_cases k12 : k < 12
        · rw [if_pos k12] at fin
          exact br_f (show ¬ nI 12 ≤ nI k from nI_ge (by omega) (by omega)) fin
        rw [if_neg k12] at fin
        refine br_t (show nI 12 ≤ nI k from nI_le (by omega) (by omega)) ?_
        by_cases k16 : k < 16
        · rw [if_pos k16] at fin
          exact br_f (show ¬ nI 16 ≤ nI k from nI_ge (by omega) (by omega)) fin
        rw [if_neg k16] at fin
        exact br_t (show nI 16 ≤ nI k from nI_le (by omega) (by omega)) fin
    exact lp 20 21 0 τ rfl (by omega) (by omega) (fun _ _ _ _ => rfl) rfl (by rw [Nat.add_zero]; exact a2) (fun i hi => by rw [if_neg (by omega)]; exact a3 i hi)
  · have hsp : sp_feed a x1 x2 x3 x4 x5 = (-1, aRef a 0) := by unfold sp_feed; rw [if_neg hc]
    rw [hsp] at hk
    exact br_f (show ¬ nI _ ≤ nI 1600 from nI_ge (by omega) (by omega)) ⟨vi_ (i := 0) (by omega) (by omega), vi_ (i := 0) (by omega) (by omega), st_ (hk _ (hR.ref (k := 0) (by omega)))⟩
theorem T_end_law {x : Int32} (h : RT a τ) (hk : ∀ τ', RT (sp_end a x).2 τ' → K (sp_end a x).1 τ') : T_end τ x K := by
  have hR := h
  obtain ⟨⟨a1, a2, a3, a4⟩, -⟩ := h
  have ref : inR x 0 (aTn a) = false → T_end_12 K τ := by
    intro e
    have hsp : sp_end a x = (0, aRef a 0) := by unfold sp_end; rw [e, if_neg (by decide)]
    rw [hsp] at hk
    exact ⟨vi_ (i := 0) (by omega) (by omega), vi_ (i := 0) (by omega) (by omega), st_ (hk _ (hR.ref (k := 0) (by omega)))⟩
  unfold T_end
  rw [a2]
  cases e : inR x 0 (aTn a) with
  | true =>
    obtain ⟨q1, q2⟩ := inR_ix (x := x) (n := aTn a + 1) (by unfold inR at e ⊢; rw [decide_eq_true_eq] at e ⊢; omega) (by omega)
    have hsp : sp_end a x = (1, aTp a, ix x, aFk a, aFp a, aRf a, aI a, aS a, aU a, aSd a, aOu a, aOn a) := by unfold sp_end; rw [e, if_pos rfl]
    rw [hsp] at hk
    refine br_f (by rw [q1]; exact nI_pos (by omega)) (br_t (by rw [q1]; exact nI_le (by omega) (by omega)) (st_ (hk _ (hR.tape (by omega) a4 (fun i j hi hij => ?_) rfl ?_ (fun i hi => ?_)))))
    · exact sI_ne hij
    · rw [sI_same]; exact q1
    · rw [sI_neI (by omega)]; exact a3 i hi
  | false =>
    have hr := ref e
    unfold inR at e
    rw [decide_eq_false_iff_not] at e
    by_cases c : x < 0
    · exact br_t c hr
    · refine br_f c (br_f ?_ hr)
      rw [Int32.le_iff_toInt_le, nI_toInt (by omega)]
      rw [Int32.lt_iff_toInt_lt, show (0 : Int32).toInt = 0 from rfl] at c
      omega
theorem T_seed_law {x : Int32} (h : RT a τ) (hk : ∀ τ', RT (sp_seed a x).2 τ' → K (sp_seed a x).1 τ') : T_seed τ x K := by
  have hR := h
  unfold T_seed
  by_cases c : x < 0
  · have hsp : sp_seed a x = (0, aRef a 5) := by unfold sp_seed; rw [if_pos c]
    rw [hsp] at hk
    exact br_f (Int32.not_le.mpr c) ⟨vi_ (i := 5) (by omega) (by omega), vi_ (i := 5) (by omega) (by omega), st_ (hk _ (hR.ref (k := 5) (by omega)))⟩
  · have hsp : sp_seed a x = (1, aTp a, aTn a, aFk a, aFp a, aRf a, aI a, aS a, aU a, x.toInt64, aOu a, aOn a) := by unfold sp_seed; rw [if_neg c]
    rw [hsp] at hk
    obtain ⟨h1, h2, h3, ⟨d1, d2, d3⟩, h5, h6, -, h8, h9⟩ := h
    refine br_t (Int32.not_lt.mp c) (st_ (hk _ ⟨h1, h2, h3, ⟨d1, d2.congr (fun _ _ _ => rfl) (fun j => sL_ne (by omega)), d3⟩, h5, h6, ⟨sL_same .., ?_, ?_⟩, h8, h9⟩))
    · rw [Int64.le_iff_toInt_le, Int32.toInt_toInt64]
      rw [Int32.lt_iff_toInt_lt, show (0 : Int32).toInt = 0 from rfl] at c
      show (0 : Int) ≤ _
      omega
    · rw [Int64.lt_iff_toInt_lt, Int32.toInt_toInt64]
      have := Int32.toInt_lt x
      show _ < (2147483648 : Int)
      omega
end TO2
