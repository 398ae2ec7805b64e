/-! PURE SIDE: image; the model's. -/
def ckN (B : Nat → Nat) (n : Nat) : Nat := lpN (fun k c => (3 * c + B k) % 251) n 113
def imV (s : Nat → Nat) (k : Nat) : Nat := if k = 0 then s 0 / 256 else if k = 1 then s 0 % 256 else s (k - 1)
def imO (s : Nat → Nat) (m : Nat) : Nat → Nat := fun k => if k < 2 + 5 * m then imV s k else ckN (imV s) (2 + 5 * m)
def aOut (a : AS) (O : Nat → Nat) (n : Nat) : AS := (aTp a, aTn a, aFk a, aFp a, aRf a, aI a, aS a, aU a, aSd a, O, n)
def sp_image (a : AS) : Int32 × AS := (nI (3 + 5 * iC (aI a) 0), aOut a (imO (aS a).1 (iC (aI a) 0)) (3 + 5 * iC (aI a) 0))
section TIm
variable {a : AS} {τ τ' : Sto} {K : Int32 → Sto → Prop}
theorem ckN_lt (B : Nat → Nat) : ∀ n, ckN B n < 251
  | 0 => (by decide : 113 < 251)
  | n + 1 => Nat.mod_lt _ (by decide)
theorem mod251 {c b : Nat} (hc : c < 251) (hb : b < 256) : (3 * nI c + nI b) - (3 * nI c + nI b) / 251 * 251 = nI ((3 * c + b) % 251) := by
  have e : 3 * nI c + nI b = nI (3 * c + b) := by rw [show (3 : Int32) * nI c = nI (3 * c) from nI_mul 3 c, nI_add]
  rw [e]
  generalize hx : 3 * c + b = x
  have hx2 : x < 1100 := by omega
  apply Int32.toInt_inj.mp
  rw [Int32.toInt_sub, Int32.toInt_mul, Int32.toInt_div, nI_toInt (by omega), nI_toInt (by omega), show (251 : Int32).toInt = 251 by decide, Int.tdiv_eq_ediv_of_nonneg (by omega)]
  have b1 : ((x : Int) / 251).bmod (2 ^ 32) = (x : Int) / 251 := by apply Int.bmod_eq_of_le <;> omega
  rw [b1]
  have b2 : ((x : Int) / 251 * 251).bmod (2 ^ 32) = (x : Int) / 251 * 251 := by apply Int.bmod_eq_of_le <;> omega
  rw [b2]
  have b3 : ((x : Int) - (x : Int) / 251 * 251).bmod (2 ^ 32) = (x : Int) - (x : Int) / 251 * 251 := by apply Int.bmod_eq_of_le <;> omega
  rw [b3]; omega
theorem T_checked_law {B : Nat → Nat} {n x0 : Nat} (hL : twL x0 = some (.inr (0, twLen x0))) (hn : n ≤ twLen x0) (hn2 : twLen x0 ≤ 1600) (hB : ∀ k, k < n → τ.1 x0 k = nI (B k) ∧ B k < 256) (hk : K (nI (ckN B n)) τ) : T_checked τ x0 (nI n) K := by
  refine ⟨n + 1, ?_⟩
  have lp : ∀ (d g k : Nat), n - k = d → d < g → k ≤ n → T_checked_5 K x0 (nI n) g (nI (ckN B k)) (nI k) τ := by
    intro d
    induction d with
    | zero =>
      intro g k hd hg hkn
      obtain ⟨g, rfl⟩ : ∃ f', g = f' + 1 := ⟨g - 1, by omega⟩
      obtain rfl : k = n := by omega
      unfold T_checked_5
      exact br_t (nI_le (by omega) (by omega)) hk
    | succ d ih =>
      intro g k hd hg hkn
      obtain ⟨g, rfl⟩ : ∃ f', g = f' + 1 := ⟨g - 1, by omega⟩
      unfold T_checked_5
      obtain ⟨h1, h2⟩ := hB k (by omega)
      rw [nI_clamp (by omega), h1, mod251 (ckN_lt B k) h2, nI_1]
      refine br_f (nI_ge (by omega) (by omega)) ⟨hL, vi_ (by omega) (by omega), fun y e => ?_⟩
      subst e
      exact ih g (k + 1) (by omega) (by omega) (by omega)
  exact lp n _ 0 rfl (by omega) (by omega)
theorem RT.out {O : Nat → Nat} {n : Nat} (h : RT a τ) (hn : n ≤ 43) (e : ∀ i j, i ≠ 102 → ¬ (i = 0 ∧ j = 102) → τ'.1 i j = τ.1 i j) (el : τ'.2.1 = τ.2.1) (e1 : τ'.1 0 102 = nI n) (e2 : ∀ i, i < n → τ'.1 102 i = nI (O i) ∧ O i < 256) : RT (aOut a O n) τ' := by
  obtain ⟨⟨a1, a2, a3, a4⟩, ⟨b1, b2, b3⟩, c, ⟨d1, d2, d3⟩, ⟨s1, s2⟩, ⟨u1, u2, nw, u3, u4, u5⟩, ⟨g1, g2⟩, -, ⟨f1, f2, cc, f3, f4⟩⟩ := h
  refine ⟨⟨a1, by rw [e _ _ (by omega) (by omega)]; exact a2, fun i hi => by rw [e _ _ (by omega) (by omega)]; exact a3 i hi, a4⟩, ⟨by rw [e _ _ (by omega) (by omega)]; exact b1, by rw [e _ _ (by omega) (by omega)]; exact b2, fun i hi => by rw [e _ _ (by omega) (by omega)]; exact b3 i hi⟩, fun p hp i hi => ?_, ⟨d1, d2.congr (fun i j hi => e i j (by omega) (by omega)) (fun j => by rw [el]), by rw [e _ _ (by omega) (by omega)]; exact d3⟩, ⟨s1, s2.mv s1 (fun j hj => e _ _ (by omega) (by omega))⟩, ⟨u1, by rw [e _ _ (by omega) (by omega)]; exact u2, nw, u3, by rw [e _ _ (by omega) (by omega)]; exact u4, fun j s hj => ⟨(u5 j s hj).1, (u5 j s hj).2.mv (u5 j s hj).1 (fun j hj => e _ _ (by omega) (by omega))⟩⟩, ⟨by rw [el]; exact g1, g2⟩, ⟨hn, e1, e2⟩, ⟨by rw [e _ _ (by omega) (by omega)]; exact f1, by rw [e _ _ (by omega) (by omega)]; exact f2, cc, f3, by rw [e _ _ (by omega) (by omega)]; exact f4⟩⟩
  have : ∀ p, p ∈ wTab → p.1 ≠ 0 ∧ p.1 ≠ 102 := by decide
  rw [e _ _ (this p hp).2 (by have := (this p hp).1; omega)]; exact c p hp i hi
theorem T_writes_law {O : Nat → Nat} {k v : Nat} {x : Int32} {K : Sto → Prop} (ex : x = nI v) (h : RT (aOut a O k) τ) (hk43 : k < 43) (hv : O k = v) (hv2 : v < 256) (hk : ∀ τ', RT (aOut a O (k + 1)) τ' → K τ') : T_writes τ x K := by
  subst ex
  obtain ⟨o1, o2, o3⟩ := h.2.2.2.2.2.2.2.1
  have o2 : τ.1 0 102 = nI k := o2
  have o3 : ∀ i, i < k → τ.1 102 i = nI (O i) ∧ O i < 256 := o3
  unfold T_writes
  rw [o2, nI_clamp (by omega)]
  refine ⟨vi_ (by omega) (by omega), st_ (st_ (hk _ ?_))⟩
  have e0 : (sI τ 102 k (nI v)).1 0 102 = nI k := by rw [sI_neI (by omega)]; exact o2
  rw [e0, nI_1]
  have := h.out (τ' := sI (sI τ 102 k (nI v)) 0 102 (nI (k + 1))) (O := O) (n := k + 1) (by omega) (fun i j q1 q2 => by rw [sI_ne q2, sI_neI q1]) rfl (sI_same ..) (fun i hi => ?_)
  · exact this
  · rw [sI_neI (by omega)]
    by_cases c : i = k
    · subst c; rw [sI_same, hv]; exact ⟨rfl, hv2⟩
    · rw [sI_ne (by omega)]; exact o3 i (by omega)
theorem T_image_law (h : RT a τ) (hk : ∀ τ', RT (sp_image a).2 τ' → K (sp_image a).1 τ') : T_image τ K := by
  have hc := h.ev.c
  have hs1 := h.2.2.2.2.1.1
  have hO0 : imO (aS a).1 (iC (aI a) 0) 0 = (aS a).1 0 / 256 := by unfold imO imV; rw [if_pos (by omega), if_pos rfl]
  have hO1 : imO (aS a).1 (iC (aI a) 0) 1 = (aS a).1 0 % 256 := by unfold imO imV; rw [if_pos (by omega), if_neg (by omega), if_pos rfl]
  have hOk : ∀ k, k < 5 * iC (aI a) 0 → imO (aS a).1 (iC (aI a) 0) (2 + k) = (aS a).1 (1 + k) := fun k hk => by
    unfold imO imV; rw [if_pos (by omega), if_neg (by omega), if_neg (by omega), show 2 + k - 1 = 1 + k by omega]
  have hOl : imO (aS a).1 (iC (aI a) 0) (2 + 5 * iC (aI a) 0) = ckN (imV (aS a).1) (2 + 5 * iC (aI a) 0) := by unfold imO; rw [if_neg (by omega)]
  have hst : ∀ {τ'}, EvC (aI a) (-1, 0) (aS a).1 τ' → ∀ i, i < 41 → τ'.1 52 i = nI ((aS a).1 i) := fun z i hi => z.st_ hi
  have hd0 := hs1.1
  generalize hO : imO (aS a).1 (iC (aI a) 0) = O at hO0 hO1 hOk hOl
  unfold sp_image at hk
  rw [hO] at hk
  have h1 : RT (aOut a O 0) (sI τ 0 102 0) := h.out (by omega) (fun i j q1 q2 => sI_ne q2) rfl (sI_same ..) (fun i hi => absurd hi (by omega))
  refine st_ ⟨vi_ (i := 0) (by omega) (by omega), ?_⟩
  have ed : ∀ {τ'}, RT (aOut a O 0) τ' → τ'.1 52 (Int32.toNatClampNeg 0) = nI ((aS a).1 0) := fun z => hst z.ev 0 (by omega)
  have ed1 : ∀ {τ'}, RT (aOut a O 1) τ' → τ'.1 52 (Int32.toNatClampNeg 0) = nI ((aS a).1 0) := fun z => hst z.ev 0 (by omega)
  have dv : ∀ x, x < 1000 → nI x / 256 = nI (x / 256) ∧ nI x - nI x / 256 * 256 = nI (x % 256) := by decide +kernel
  rw [ed h1]
  refine T_writes_law (dv _ (by omega)).1 h1 (by omega) hO0 (by omega) fun τ2 h2 => ⟨vi_ (i := 0) (by omega) (by omega), ?_⟩
  rw [ed1 h2]
  refine T_writes_law (dv _ (by omega)).2 h2 (by omega) hO1 (by omega) fun τ3 h3 => ⟨5 * iC (aI a) 0 + 1, ?_⟩
  have lp : ∀ (d g k : Nat) (τ' : Sto), 5 * iC (aI a) 0 - k = d → d < g → k ≤ 5 * iC (aI a) 0 → RT (aOut a O (2 + k)) τ' → T_image_35 K g (nI k) τ' := by
    intro d
    induction d with
    | zero =>
      intro g k τ' hd hg hkn hR
      obtain ⟨g, rfl⟩ : ∃ f', g = f' + 1 := ⟨g - 1, by omega⟩
      obtain rfl : k = 5 * iC (aI a) 0 := by omega
      unfold T_image_35
      obtain ⟨o1, o2, o3⟩ := hR.2.2.2.2.2.2.2.1
      have o2 : τ'.1 0 102 = nI (2 + 5 * iC (aI a) 0) := o2
      have o3 : ∀ i, i < 2 + 5 * iC (aI a) 0 → τ'.1 102 i = nI (O i) ∧ O i < 256 := o3
      refine T_thingMany_law hR.ev ?_
      rw [show (5 : Int32) * nI (iC (aI (aOut a O (2 + 5 * iC (aI a) 0))) 0) = nI (5 * iC (aI a) 0) from nI_mul 5 _, o2]
      refine br_t (nI_le (by omega) (by omega)) (T_checked_law (B := O) rfl (by show _ ≤ 43; omega) (by decide) o3 ?_)
      have eck : ckN O (2 + 5 * iC (aI a) 0) = ckN (imV (aS a).1) (2 + 5 * iC (aI a) 0) := by
        have : ∀ n, n ≤ 2 + 5 * iC (aI a) 0 → ckN O n = ckN (imV (aS a).1) n := by
          intro n
          induction n with
          | zero => intro _; rfl
          | succ n ih =>
            intro hn
            show (3 * ckN O n + O n) % 251 = (3 * ckN (imV (aS a).1) n + imV (aS a).1 n) % 251
            rw [ih (by omega)]
            have : O n = imV (aS a).1 n := by rw [← hO]; unfold imO; rw [if_pos (by omega)]
            rw [this]
        exact this _ (Nat.le_refl _)
      have hlt := ckN_lt (imV (aS a).1) (2 + 5 * iC (aI a) 0)
      rw [eck]
      refine T_writes_law rfl hR (by omega) hOl (by omega) fun τ4 h4 => ?_
      have o4 : τ4.1 0 102 = nI (2 + 5 * iC (aI a) 0 + 1) := h4.2.2.2.2.2.2.2.1.2.1
      rw [o4, show 2 + 5 * iC (aI a) 0 + 1 = 3 + 5 * iC (aI a) 0 by omega]
      rw [show 2 + 5 * iC (aI a) 0 + 1 = 3 + 5 * iC (aI a) 0 by omega] at h4
      exact hk τ4 h4
    | succ d ih =>
      intro g k τ' hd hg hkn hR
      obtain ⟨g, rfl⟩ : ∃ f', g = f' + 1 := ⟨g - 1, by omega⟩
      unfold T_image_35
      have hb := hR.ev.2.2.2.1.2.1 (1 + k) (by omega) (by omega)
      have hb : (aS a).1 (1 + k) ≤ 99 := hb
      refine T_thingMany_law hR.ev ?_
      rw [show (5 : Int32) * nI (iC (aI (aOut a O (2 + k))) 0) = nI (5 * iC (aI a) 0) from nI_mul 5 _, show (1 : Int32) + nI k = nI (1 + k) from nI_add 1 k, nI_clamp (by omega), show τ'.1 52 (1 + k) = nI ((aS a).1 (1 + k)) from hst hR.ev _ (by omega), nI_1]
      refine br_f (nI_ge (by omega) (by omega)) ⟨vi_ (by omega) (by omega), T_writes_law rfl hR (by omega) (hOk k (by omega)) (by omega) fun τ4 h4 => ih g (k + 1) τ4 (by omega) (by omega) (by omega) ?_⟩
      exact h4
  exact lp _ _ 0 τ3 rfl (by omega) (by omega) h3
end TIm
