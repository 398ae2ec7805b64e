/-! PURE SIDE: on; the model's. -/
def thOK (B : Byt) (k : Nat) : Bool := decide (B k ≤ 2) && (decide (B (k + 4) ≤ (if B k = 2 then 1 else 0)) && (decide (B (k + 1) ≤ 99) && (decide (B (k + 2) ≤ 99) && decide (B (k + 3) ≤ 99))))
def imOK (a : AS) (n : Nat) : Bool := decide (n = 3 + 5 * iC (aI a) 0) && (decide (aTp a (n - 1) = ckN (aTp a) (n - 1)) && (decide (256 * aTp a 0 + aTp a 1 ≤ 999) && allN (fun t => thOK (aTp a) (2 + 5 * t)) (iC (aI a) 0)))
def onS (B : Byt) (m : Nat) (s : St) : St := ((fun i => if i = 0 then 256 * B 0 + B 1 else if i < 1 + 5 * m then B (1 + i) else s.1 i), 0, s.2.2)
def sp_on (a : AS) : Int32 × AS := if imOK a (aTn a) then (1, aSetS (aT0 a) (onS (aTp a) (iC (aI a) 0) (aS a)) []) else (0, aRef (aT0 a) 5)
section TOn
variable {a : AS} {τ τ' : Sto} {K : Int32 → Sto → Prop}
theorem T_isThingTold_law {k : Nat} (h : RT a τ) (hk4 : k + 4 < 1600) (hk : K (b1 (thOK (aTp a) k)) τ) : T_isThingTold τ (nI k) K := by
  obtain ⟨-, -, a3, a4⟩ := h.1
  have b0 := a4 k
  have b1' := a4 (k + 1)
  have b2' := a4 (k + 2)
  have b3' := a4 (k + 3)
  have b4' := a4 (k + 4)
  unfold thOK at hk
  unfold T_isThingTold
  rw [show nI k + 4 = nI (k + 4) from nI_add k 4, nI_clamp (by omega), nI_clamp (by omega), a3 _ (by omega), a3 _ (by omega)]
  refine ⟨vi_ (by omega) (by omega), ?_⟩
  by_cases c0 : aTp a k ≤ 2
  · rw [decide_eq_true c0, Bool.true_and] at hk
    refine br_f (show ¬ nI 2 < nI _ from nI_nlt c0 (by omega)) ⟨vi_ (by omega) (by omega), vi_ (by omega) (by omega), ?_⟩
    have go : ∀ w, w ≤ 1 → (if aTp a k = 2 then 1 else 0) = w → T_isThingTold_33 K (nI k) (nI w) (nI (aTp a (k + 4))) τ := by
      intro w hw ew
      rw [ew] at hk
      unfold T_isThingTold_33
      rw [nI_1, show nI k + 2 = nI (k + 2) from nI_add k 2, show nI k + 3 = nI (k + 3) from nI_add k 3, nI_clamp (by omega), nI_clamp (by omega), nI_clamp (by omega), a3 _ (by omega), a3 _ (by omega), a3 _ (by omega)]
      by_cases c4 : aTp a (k + 4) ≤ w
      · rw [decide_eq_true c4, Bool.true_and] at hk
        refine br_t (nI_le c4 (by omega)) ⟨vi_ (by omega) (by omega), ?_⟩
        by_cases c1 : aTp a (k + 1) ≤ 99
        · rw [decide_eq_true c1, Bool.true_and] at hk
          refine br_f (show ¬ nI 99 < nI _ from nI_nlt c1 (by omega)) ⟨vi_ (by omega) (by omega), ?_⟩
          by_cases c2 : aTp a (k + 2) ≤ 99
          · rw [decide_eq_true c2, Bool.true_and] at hk
            refine br_f (show ¬ nI 99 < nI _ from nI_nlt c2 (by omega)) ⟨vi_ (by omega) (by omega), ?_⟩
            by_cases c3 : aTp a (k + 3) ≤ 99
            · rw [decide_eq_true c3] at hk
              exact br_f (show ¬ nI 99 < nI _ from nI_nlt c3 (by omega)) hk
            · rw [decide_eq_false c3] at hk
              exact br_t (show nI 99 < nI _ from nI_lt (by omega) (by omega)) hk
          · rw [decide_eq_false c2] at hk
            exact br_t (show nI 99 < nI _ from nI_lt (by omega) (by omega)) hk
        · rw [decide_eq_false c1] at hk
          exact br_t (show nI 99 < nI _ from nI_lt (by omega) (by omega)) hk
      · rw [decide_eq_false c4] at hk
        exact br_f (nI_ge (by omega) (by omega)) hk
    by_cases c : aTp a k = 2
    · exact bn_f (by rw [c]; rfl) (go 1 (by omega) (by rw [if_pos c]))
    · exact bn_t (fun z => c ((nI_eq (b := 2) (by omega) (by omega)).mp z)) (go 0 (by omega) (by rw [if_neg c]))
  · rw [decide_eq_false c0] at hk
    exact br_t (show nI 2 < nI _ from nI_lt (by omega) (by omega)) hk
theorem T_isImage_law {n : Nat} (h : RT a τ) (hn : n ≤ 1600) (hk : K (b1 (imOK a n)) τ) : T_isImage τ (nI n) K := by
  have hE := h.ev
  have hc := hE.c
  obtain ⟨-, -, a3, a4⟩ := h.1
  unfold imOK at hk
  refine T_thingMany_law hE ?_
  rw [show (5 : Int32) * nI (iC (aI a) 0) = nI (5 * iC (aI a) 0) from nI_mul 5 _, show (3 : Int32) + nI (5 * iC (aI a) 0) = nI (3 + 5 * iC (aI a) 0) from nI_add 3 _, nI_eq (by omega) (by omega)]
  by_cases c : n = 3 + 5 * iC (aI a) 0
  · rw [decide_eq_true c, Bool.true_and] at hk
    have en : nI n - 1 = nI (n - 1) := by
      obtain ⟨k, rfl⟩ : ∃ k', n = k' + 1 := ⟨n - 1, by omega⟩
      exact nI_pred k
    have hlt := ckN_lt (aTp a) (n - 1)
    have hbn := a4 (n - 1)
    have b0 := a4 0
    have b1' := a4 1
    rw [en, nI_clamp (by omega), a3 _ (by omega)]
    refine bn_f c ⟨vi_ (by omega) (by omega), T_checked_law (B := aTp a) rfl (by show _ ≤ 1600; omega) (by decide) (fun k hk => ⟨a3 k (by omega), a4 k⟩) ?_⟩
    rw [nI_eq (by omega) (by omega)]
    by_cases c1 : aTp a (n - 1) = ckN (aTp a) (n - 1)
    · rw [decide_eq_true c1, Bool.true_and] at hk
      rw [show τ.1 1 (Int32.toNatClampNeg 0) = nI (aTp a 0) from a3 0 (by omega), show τ.1 1 (Int32.toNatClampNeg 1) = nI (aTp a 1) from a3 1 (by omega), show (256 : Int32) * nI (aTp a 0) = nI (256 * aTp a 0) from nI_mul 256 _, nI_add]
      refine bn_f c1 ⟨vi_ (i := 0) (by omega) (by omega), vi_ (i := 1) (by omega) (by omega), ?_⟩
      by_cases c2 : 256 * aTp a 0 + aTp a 1 ≤ 999
      · rw [decide_eq_true c2, Bool.true_and] at hk
        refine br_t (show nI _ ≤ nI 999 from nI_le c2 (by omega)) ⟨iC (aI a) 0 + 1, ?_⟩
        have lp : ∀ (d g t : Nat), iC (aI a) 0 - t = d → d < g → t ≤ iC (aI a) 0 → allN (fun t => thOK (aTp a) (2 + 5 * t)) t = true → T_isImage_60 K g (nI t) τ := by
          intro d
          induction d with
          | zero =>
            intro g t hd hg ht hq
            obtain ⟨g, rfl⟩ : ∃ f', g = f' + 1 := ⟨g - 1, by omega⟩
            obtain rfl : t = iC (aI a) 0 := by omega
            rw [hq] at hk
            unfold T_isImage_60
            exact T_thingMany_law hE (br_t (nI_le (by omega) (by omega)) hk)
          | succ d ih =>
            intro g t hd hg ht hq
            obtain ⟨g, rfl⟩ : ∃ f', g = f' + 1 := ⟨g - 1, by omega⟩
            unfold T_isImage_60
            refine T_thingMany_law hE (br_f (nI_ge (by omega) (by omega)) ?_)
            rw [show (5 : Int32) * nI t = nI (5 * t) from nI_mul 5 _, show (2 : Int32) + nI (5 * t) = nI (2 + 5 * t) from nI_add 2 _, nI_1]
            refine T_isThingTold_law h (by omega) ?_
            cases e : thOK (aTp a) (2 + 5 * t) with
            | true => exact bn_t (by decide) (ih g (t + 1) (by omega) (by omega) (by omega) (by rw [allN_s, hq, e]; rfl))
            | false => rw [allN_f (k := t) (by omega) e] at hk; exact bn_f rfl hk
        exact lp _ _ 0 rfl (by omega) (by omega) rfl
      · rw [decide_eq_false c2] at hk
        exact br_f (show ¬ nI _ ≤ nI 999 from nI_ge (by omega) (by omega)) hk
    · rw [decide_eq_false c1] at hk
      exact bn_t c1 hk
  · rw [decide_eq_false c] at hk
    exact bn_t c hk
theorem onS_OK (h : RT a τ) (hi : imOK a (aTn a) = true) : StOK (onS (aTp a) (iC (aI a) 0) (aS a)) := by
  have hc := h.ev.c
  have hs1 := h.2.2.2.2.1.1
  unfold imOK at hi
  rw [Bool.and_eq_true, Bool.and_eq_true, Bool.and_eq_true, decide_eq_true_eq, decide_eq_true_eq, decide_eq_true_eq] at hi
  obtain ⟨-, -, i3, i4⟩ := hi
  refine ⟨i3, fun t ht => ?_, Nat.zero_le _⟩
  by_cases c : t < iC (aI a) 0
  · have := allN_iff.1 i4 t c
    unfold thOK at this
    rw [Bool.and_eq_true, Bool.and_eq_true, Bool.and_eq_true, Bool.and_eq_true, decide_eq_true_eq, decide_eq_true_eq, decide_eq_true_eq, decide_eq_true_eq, decide_eq_true_eq] at this
    obtain ⟨p0, p4, p1, p2, p3⟩ := this
    have e : ∀ j, 1 ≤ j → j ≤ 5 → (onS (aTp a) (iC (aI a) 0) (aS a)).1 (j + 5 * t) = aTp a (2 + 5 * t + (j - 1)) := fun j j1 j2 => by
      show (if _ then _ else if _ then _ else _) = _
      rw [if_neg (by omega), if_pos (by omega)]; congr 1; omega
    rw [e 1 (by omega) (by omega), e 2 (by omega) (by omega), e 3 (by omega) (by omega), e 4 (by omega) (by omega), e 5 (by omega) (by omega)]
    refine ⟨p0, p1, p2, p3, Nat.le_trans p4 ?_⟩
    split <;> omega
  · have e : ∀ j, 1 ≤ j → j ≤ 5 → (onS (aTp a) (iC (aI a) 0) (aS a)).1 (j + 5 * t) = (aS a).1 (j + 5 * t) := fun j j1 j2 => by
      show (if _ then _ else if _ then _ else _) = _
      rw [if_neg (by omega), if_neg (by omega)]
    rw [e 1 (by omega) (by omega), e 2 (by omega) (by omega), e 3 (by omega) (by omega), e 4 (by omega) (by omega), e 5 (by omega) (by omega)]
    exact hs1.2.1 t ht
theorem T_on_law (h : RT a τ) (hk : ∀ τ', RT (sp_on a).2 τ' → K (sp_on a).1 τ') : T_on τ K := by
  have hc := h.ev.c
  obtain ⟨a1, a2, a3, a4⟩ := h.1
  have h0 := h.t0
  unfold sp_on at hk
  unfold T_on
  rw [a2]
  refine st_ (T_isImage_law h0 a1 ?_)
  rw [show imOK (aT0 a) (aTn a) = imOK a (aTn a) from rfl]
  cases e : imOK a (aTn a) with
  | false =>
    rw [e, if_neg (by decide)] at hk
    exact bn_f rfl ⟨vi_ (i := 5) (by omega) (by omega), vi_ (i := 5) (by omega) (by omega), st_ (hk _ (h0.ref (k := 5) (by omega)))⟩
  | true =>
    rw [e, if_pos rfl] at hk
    have hok := onS_OK h e
    generalize hτ : sI τ 0 1 0 = τ0 at h0
    obtain ⟨-, -, a3, -⟩ := h0.1
    have a3 : ∀ i, i < 1600 → τ0.1 1 i = nI (aTp a i) := a3
    have hst : ∀ i, i < 41 → τ0.1 52 i = nI ((aS a).1 i) := fun i hi => h0.ev.st_ hi
    obtain ⟨-, -, nw, u3, u4, -⟩ := h0.2.2.2.2.2.1
    rw [show τ0.1 1 (Int32.toNatClampNeg 0) = nI (aTp a 0) from a3 0 (by omega), show τ0.1 1 (Int32.toNatClampNeg 1) = nI (aTp a 1) from a3 1 (by omega), show (256 : Int32) * nI (aTp a 0) = nI (256 * aTp a 0) from nI_mul 256 _, nI_add]
    refine bn_t (by decide) ⟨vi_ (i := 0) (by omega) (by omega), vi_ (i := 1) (by omega) (by omega), vi_ (i := 0) (by omega) (by omega), st_ ⟨5 * iC (aI a) 0 + 1, ?_⟩⟩
    have lp : ∀ (d g k : Nat) (τ' : Sto), 5 * iC (aI a) 0 - k = d → d < g → k ≤ 5 * iC (aI a) 0 → (∀ i j, i ≠ 52 → τ'.1 i j = τ0.1 i j) → τ'.2.1 = τ0.2.1 → (∀ j, j < 1 + k → τ'.1 52 j = nI ((onS (aTp a) (iC (aI a) 0) (aS a)).1 j)) → (∀ j, 1 + k ≤ j → τ'.1 52 j = τ0.1 52 j) → T_on_55 K g (nI k) τ' := by
      intro d
      induction d with
      | zero =>
        intro g k τ' hd hg hkn e1 el e2 e3
        obtain ⟨g, rfl⟩ : ∃ f', g = f' + 1 := ⟨g - 1, by omega⟩
        obtain rfl : k = 5 * iC (aI a) 0 := by omega
        unfold T_on_55
        have hE' : EvC (aI a) (-1, 0) (onS (aTp a) (iC (aI a) 0) (aS a)).1 τ' := h0.ev.mv (fun i j hi => e1 i j (by omega)) (fun j => by rw [el]) (e1 0 53 (by omega)) (e1 0 54 (by omega)) (fun i hi => ?_) hok.bd
        · refine T_thingMany_law hE' ?_
          rw [show (5 : Int32) * nI (iC (aI a) 0) = nI (5 * iC (aI a) 0) from nI_mul 5 _]
          refine br_t (nI_le (by omega) (by omega)) ⟨vi_ (i := 41) (by omega) (by omega), st_ (st_ (hk _ (h0.und hok ⟨fun i hi => ?_, ?_, fun j hj => absurd hj (by show ¬ j < 3 * 0; omega)⟩ ⟨Nat.zero_le _, sI_same .., nw, u3, ?_, fun j s hj => by cases hj⟩ (fun i j q1 q2 q3 => ?_) el)))⟩
          · rw [Nat.zero_add, sI_neI (by omega), show Int32.toNatClampNeg 41 = 41 from rfl, sI_ne (by omega)]; exact hE'.st_ hi
          · rw [sI_neI (by omega)]; exact sI_same ..
          · rw [sI_ne (by omega), sI_neI (by omega), e1 _ _ (by omega)]; exact u4
          · rw [sI_ne (by omega), sI_neI (by omega)]; exact e1 i j q2
        · by_cases c : i < 1 + 5 * iC (aI a) 0
          · exact e2 i c
          · rw [e3 i (by omega), hst i hi]
            congr 1
            show _ = (if _ then _ else if _ then _ else _)
            rw [if_neg (by omega), if_neg (by omega)]
      | succ d ih =>
        intro g k τ' hd hg hkn e1 el e2 e3
        obtain ⟨g, rfl⟩ : ∃ f', g = f' + 1 := ⟨g - 1, by omega⟩
        unfold T_on_55
        refine ⟨vi_ (i := 3) (by omega) (by omega), ?_⟩
        rw [show τ'.1 40 (Int32.toNatClampNeg 3) = nI (iC (aI a) 0) by rw [e1 _ _ (by omega)]; exact h0.ev.n0]
        dsimp only
        rw [show (5 : Int32) * nI (iC (aI a) 0) = nI (5 * iC (aI a) 0) from nI_mul 5 _, show (2 : Int32) + nI k = nI (2 + k) from nI_add 2 k, show (1 : Int32) + nI k = nI (1 + k) from nI_add 1 k, nI_clamp (by omega), nI_clamp (by omega), e1 1 _ (by omega), a3 _ (by omega), nI_1]
        refine br_f (nI_ge (by omega) (by omega)) ⟨vi_ (by omega) (by omega), vi_ (by omega) (by omega), st_ (ih g (k + 1) _ (by omega) (by omega) (by omega) (fun i j q => by rw [sI_neI q]; exact e1 i j q) el (fun j hj => ?_) (fun j hj => by rw [sI_ne (by omega)]; exact e3 j (by omega)))⟩
        by_cases c : j = 1 + k
        · subst c
          rw [sI_same]
          congr 1
          show _ = (if _ then _ else if _ then _ else _)
          rw [if_neg (by omega), if_pos (by omega)]; congr 1; omega
        · rw [sI_ne (by omega)]; exact e2 j (by omega)
    refine lp _ _ 0 _ rfl (by omega) (by omega) (fun i j q => sI_neI q) rfl (fun j hj => ?_) (fun j hj => sI_ne (by rintro ⟨-, rfl⟩; exact absurd hj (by show ¬ 1 + 0 ≤ 0; omega)))
    obtain rfl : j = 0 := by omega
    exact sI_same ..
end TOn
