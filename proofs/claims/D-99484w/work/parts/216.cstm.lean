/-! COMPONENT, PURE SIDE: a statement. -/
section CS0
variable {σ0 σ σ' σ'' : CS} {i j k k' n o p q x mc ms c m tk d t id kd st MC f : Nat} {B : Byt} {S S' : Nat → Prop} {w : List Nat} {I I' : Isl}
/-- the island's bounds while it is read -/
def IbC (I : Isl) : Prop := iC I 0 ≤ 8 ∧ iC I 1 ≤ 4 ∧ iC I 2 ≤ 5
theorem cr_laws155 {K : Unit → CS → Prop} {E : CS → Prop} {x1 : Nat} {x2 : Int32} (hwn : w ≠ thingWd ∧ w ≠ menderWd ∧ w ≠ trialWd) (hI : IbC I) (hb : BuC B n σ k t I st) (hx2 : x2 = nI p) (f0 : FrDc σ0 σ) (h0 : σ0.1 = t) (hM : σ.1 + mc ≤ σ0.1 + MC) (hMB : σ0.1 + MC ≤ CB) (hb1 : 60 * bd n k (pBod B n I w p k) + 50 ≤ mc) (hb2 : 4500 * bd n k (pBod B n I w p k) + 3800 ≤ ms)
    (hE : ∀ e, pBod B n I w p k = .inl e → ErD MC σ0 E e) (hK : ∀ I' k', pBod B n I w p k = .inr (I', k') → ∀ σ' k2, k2 ≤ k' → skp B n k2 = skp B n k' → FrDc σ0 σ' → σ'.1 ≤ σ.1 + mc → BuC B n σ' k2 t I' st → K () σ') : U_X2_laws_155 mc ms K E x1 x2 (lwIx w) 0 0 σ := by
  have hl := hb.lt
  unfold pBod at hb1 hb2 hE hK
  rw [if_neg hwn.1, if_neg hwn.2.1, if_neg hwn.2.2] at hb1 hb2 hE hK
  unfold lwIx
  by_cases e0 : w = standsWd
  · rw [if_pos e0] at hb1 hb2 hE hK ⊢
    exact br_t rfl (cr_lawT (ww := 0) (Or.inl ⟨rfl, rfl, rfl⟩) rfl hb hI.2.1 hx2 f0 h0 hM hMB hb1 hb2 hE hK)
  rw [if_neg e0] at hb1 hb2 hE hK ⊢
  by_cases e1 : w = fallsWd
  · rw [if_pos e1] at hb1 hb2 hE hK ⊢
    exact br_f (by decide) (br_t rfl (cr_lawT (ww := 1) (Or.inr ⟨rfl, rfl, rfl⟩) rfl hb hI.2.1 hx2 f0 h0 hM hMB hb1 hb2 hE hK))
  rw [if_neg e1] at hb1 hb2 hE hK ⊢
  by_cases e2 : w = takesWd
  · rw [if_pos e2] at hb1 hb2 hE hK ⊢
    exact br_f (by decide) (br_f (by decide) (br_t rfl (cr_lawV (ww := 2) (Or.inl ⟨rfl, rfl, rfl⟩) rfl hb hI.2.1 hx2 f0 h0 hM hMB hb1 hb2 hE hK)))
  rw [if_neg e2] at hb1 hb2 hE hK ⊢
  by_cases e3 : w = fineWd
  · rw [if_pos e3] at hb1 hb2 hE hK ⊢
    exact br_f (by decide) (br_f (by decide) (br_f (by decide) (br_t rfl (cr_lawV (ww := 3) (Or.inr (Or.inl ⟨rfl, rfl, rfl⟩)) rfl hb hI.2.1 hx2 f0 h0 hM hMB hb1 hb2 hE hK))))
  rw [if_neg e3] at hb1 hb2 hE hK ⊢
  by_cases e4 : w = firstWd
  · rw [if_pos e4] at hb1 hb2 hE hK ⊢
    exact br_f (by decide) (br_f (by decide) (br_f (by decide) (br_f (by decide) (br_t rfl (cr_lawV (ww := 4) (Or.inr (Or.inr ⟨rfl, rfl, rfl⟩)) rfl hb hI.2.1 hx2 f0 h0 hM hMB hb1 hb2 hE hK)))))
  rw [if_neg e4] at hb1 hb2 hE hK ⊢
  by_cases e5 : w = catWd
  · rw [if_pos e5] at hE hK ⊢
    refine br_f (by decide) (br_f (by decide) (br_f (by decide) (br_f (by decide) (br_f (by decide) (br_t rfl (cr_number (mc := 0) hb.rd (lo := 0) (hi := 100) rfl rfl (by omega) (by omega) (fun e he => ?_) (fun v q hv s fs zs gs => ?_)))))))
    · rw [he] at hE; exact (hE e rfl).goD f0 (by omega)
    · rw [hv] at hK
      have bs := hb.fr fs gs
      refine ⟨t, hb.2.1, by have := gs.sz; omega, bs.kind, st_ ?_⟩
      obtain ⟨S, hX⟩ := bs.2.2.2.2
      have av : ∀ i, i ≠ t → agr s (wI s t 1 (nI v)) i := fun i hi => (agr.refl s i).wI hi
      have hS : ∀ i, S i → i ≠ t := by
        obtain ⟨a, cp, el, -, -, -, hS, -⟩ := hX
        intro i hi
        have := hS i hi; omega
      refine hK _ _ rfl _ q (Nat.le_refl _) rfl ((f0.trans fs.toD).of_agr (fun i hi _ _ => av i (by omega)) (Nat.le_refl _) (fun i hi _ => (av i (by omega)).1)) (by show s.1 ≤ _; omega) ⟨gs.agr (fun i hi => av i (by have := gs.sz; omega)) (Nat.le_refl _) (by have := gs.sz; show s.1 ≤ _; omega), bs.2.1, ?_, bs.2.2.2.1, S, hX.set rfl av rfl (fun kd _ => rfl) rfl rfl (fun i hi => ?_) (fun j _ => rfl) hI.2.1 (fun hlw => ?_)⟩
      · rw [gI_wn (by omega)]; exact bs.2.2.1
      · show fu_ (iX I) 40 v i = _
        exact fu_ne (by omega)
      · obtain ⟨l1, l2, l3, l4, l5, l6⟩ := hlw
        have fS : ∀ i, S i → agr s (wI s t 1 (nI v)) i := fun i hi => av i (hS i hi)
        refine ⟨l1.fr fS (fun _ h => h), l2.fr fS (fun _ h => h), l3.fr fS (fun _ h => h), l4.fr fS (fun _ h => h), l5.fr fS (fun _ h => h), ?_⟩
        show _ = nI (fu_ (iX I) 40 v 40)
        rw [fu_same]; exact gI_ws
  rw [if_neg e5] at hE ⊢
  exact br_f (by decide) (br_f (by decide) (br_f (by decide) (br_f (by decide) (br_f (by decide) (br_f (by decide) (cr_wrong (mc := 0) rfl hx2 ((hE _ rfl).goD f0 (by omega))))))))
theorem cr_size {K : Int32 → CS → Prop} {l : Nat} (h1 : gK σ l = some kO20) (h2 : gI σ l 2 = nI c) (hk : K (nI c) σ) : U_J2_size σ l K := ⟨h1, by rw [h2]; exact hk⟩
theorem cr_named86 {K : Int32 → CS → Prop} {E : CS → Prop} {x1 : Nat} {x2 : Int32} (hwn : w = thingWd ∨ w = menderWd ∨ w = trialWd) (hI : IbC I) (hb : BuC B n σ k t I st) (hx2 : x2 = nI p) (f0 : FrDc σ0 σ) (h0 : σ0.1 = t) (hM : σ.1 + mc ≤ σ0.1 + MC) (hMB : σ0.1 + MC ≤ CB) (hb1 : 60 * bd n k (pBod B n I w p k) + 50 ≤ mc) (hb2 : 4500 * bd n k (pBod B n I w p k) + 3800 ≤ ms)
    (hE : ∀ e, pBod B n I w p k = .inl e → ErD MC σ0 E e) (hK : ∀ I' k', pBod B n I w p k = .inr (I', k') → ∀ σ' k2, k2 ≤ k' → skp B n k2 = skp B n k' → FrDc σ0 σ' → σ'.1 ≤ σ.1 + mc → BuC B n σ' k2 t I' st → K 1 σ') : U_X2_named_86 mc ms K E x1 x2 (nmIx w) 0 0 σ := by
  obtain ⟨S, hX⟩ := hb.2.2.2.2
  unfold pBod at hb1 hb2 hE hK
  unfold nmIx
  by_cases e0 : w = thingWd
  · rw [if_pos e0] at hb1 hb2 hE hK ⊢
    obtain ⟨l, l1, l2, l3, l4⟩ := hX.size (kd := 0) (by omega)
    refine br_t rfl ⟨t, hb.2.1, hb.kind, l, l1, l2, cr_size l2 l3 ?_⟩
    have go := cr_thing (x1 := x1) hb hx2 f0 h0 hM hMB hb1 hb2 hE (fun I' k' he s fd z b => hK I' k' he s k' (Nat.le_refl _) rfl fd z b)
    by_cases e : iC I 0 = 8
    · rw [decide_eq_true e] at go
      exact bn_f (by rw [e]; rfl) go
    · rw [decide_eq_false e] at go
      exact bn_t (fun z => e ((nI_eq (b := 8) (by omega) (by omega)).mp z)) go
  rw [if_neg e0] at hb1 hb2 hE hK ⊢
  by_cases e1 : w = menderWd
  · rw [if_pos e1] at hb1 hb2 hE hK ⊢
    obtain ⟨l, l1, l2, l3, l4⟩ := hX.size (kd := 1) (by omega)
    refine br_f (by decide) (br_t rfl ⟨t, hb.2.1, hb.kind, l, l1, l2, cr_size l2 l3 ?_⟩)
    have go := cr_mender (x1 := x1) hb hI.2.1 hI.1 hx2 f0 h0 hM hMB hb1 hb2 hE (fun I' k' he s fd z b => hK I' k' he s k' (Nat.le_refl _) rfl fd z b)
    by_cases e : iC I 1 = 4
    · rw [decide_eq_true e] at go
      exact bn_f (by rw [e]; rfl) go
    · rw [decide_eq_false e] at go
      exact bn_t (fun z => e ((nI_eq (b := 4) (by omega) (by omega)).mp z)) go
  rw [if_neg e1] at hb1 hb2 hE hK ⊢
  have e2 : w = trialWd := by
    rcases hwn with h | h | h
    · exact absurd h e0
    · exact absurd h e1
    · exact h
  rw [if_pos e2] at hb1 hb2 hE hK ⊢
  obtain ⟨l, l1, l2, l3, l4⟩ := hX.size (kd := 2) (by omega)
  refine br_f (by decide) (br_f (by decide) (br_t rfl ⟨t, hb.2.1, hb.kind, l, l1, l2, cr_size l2 l3 ?_⟩))
  have go := cr_trial (x1 := x1) hb hI.2.2 hx2 f0 h0 hM hMB hb1 hb2 hE (fun I' k' he s k2 a1 a2 fd z b => hK I' k' he s k2 a1 a2 fd z b)
  by_cases e : iC I 2 = 5
  · rw [decide_eq_true e] at go
    exact bn_f (by rw [e]; rfl) go
  · rw [decide_eq_false e] at go
    exact bn_t (fun z => e ((nI_eq (b := 5) (by omega) (by omega)).mp z)) go
/-- one word of a choice: held against it -/
theorem cr_one {K0 K1 : CS → Prop} {u : List Nat} (hs : StrC σ S q w) (hq : q < CB) (hK : KoC σ) (ht : t < 32) (hid : id = CB + 16 + 2 * t) (hu : kTxt.getD t [] = u) (h1 : w = u → K1 σ) (h0 : w ≠ u → K0 σ) : gK σ q = some kO21 ∧ (U_J6_equals σ q id (fun r σ' => ((r = 0 → K0 σ') ∧ (¬ r = 0 → K1 σ')))) := by
  have hk := strK hK ht hid
  rw [hu] at hk
  refine ⟨hs.2.1, cr_equals hs hk (Or.inl hq) ?_⟩
  by_cases e : w = u
  · rw [decide_eq_true e]; exact br_f (by decide) (h1 e)
  · rw [decide_eq_false e]; exact br_t rfl (h0 e)
theorem cr_named {K : Int32 → CS → Prop} {E : CS → Prop} {x2 : Int32} (hs : StrC σ S q w) (h2 : gI σ q 2 = 0) (h3 : gI σ q 3 = 0) (hw : 0 < w.length) (hq : q < CB) (hK : KoC σ) (hgo : ∀ σ', σ'.1 = σ.1 → (∀ i, i ≠ q → agr σ σ' i) → StrC σ' S q w → HsC σ' q w → U_X2_named_86 mc ms K E q x2 (nmIx w) 0 0 σ') : U_X2_named mc ms σ q x2 K E := by
  refine ⟨hs.2.1, cr_hash hs h2 h3 hw hq fun s z ag hs' hh => ?_⟩
  have go := hgo s z ag hs' hh
  have hK' : KoC s := fun i hi => by
    have a := ag i (by omega)
    have b := hK i hi
    exact ⟨a.1.trans b.1, a.2.1.trans b.2.1, a.2.2.2.trans b.2.2⟩
  by_cases c1 : hsh w = -1077737861
  · refine br_t c1 (cr_one (t := 18) hs' hq hK' (by omega) rfl (u := menderWd) rfl (fun e => ?_) (fun e => ?_))
    · rw [e] at go; exact go
    · have : nmIx w = -1 := by
        unfold nmIx
        rw [if_neg (fun z => by rw [z] at c1; exact absurd c1 (by decide)), if_neg e, if_neg (fun z => by rw [z] at c1; exact absurd c1 (by decide))]
      rw [this] at go; exact go
  · refine br_f c1 ?_
    by_cases c2 : hsh w = 110331118
    · refine br_t c2 (cr_one (t := 17) hs' hq hK' (by omega) rfl (u := thingWd) rfl (fun e => ?_) (fun e => ?_))
      · rw [e] at go; exact go
      · have : nmIx w = -1 := by
          unfold nmIx
          rw [if_neg e, if_neg (fun z => by rw [z] at c2; exact absurd c2 (by decide)), if_neg (fun z => by rw [z] at c2; exact absurd c2 (by decide))]
        rw [this] at go; exact go
    · refine br_f c2 ?_
      by_cases c3 : hsh w = 110628630
      · refine br_t c3 (cr_one (t := 20) hs' hq hK' (by omega) rfl (u := trialWd) rfl (fun e => ?_) (fun e => ?_))
        · rw [e] at go; exact go
        · have : nmIx w = -1 := by
            unfold nmIx
            rw [if_neg (fun z => by rw [z] at c3; exact absurd c3 (by decide)), if_neg (fun z => by rw [z] at c3; exact absurd c3 (by decide)), if_neg e]
          rw [this] at go; exact go
      · have : nmIx w = -1 := by
          unfold nmIx
          rw [if_neg (fun z => c2 (by rw [z]; decide)), if_neg (fun z => c1 (by rw [z]; decide)), if_neg (fun z => c3 (by rw [z]; decide))]
        rw [this] at go
        exact br_f c3 go
theorem cr_laws {K : Unit → CS → Prop} {E : CS → Prop} {x2 : Int32} (hs' : StrC σ S q w) (hh : HsC σ q w) (hq : q < CB) (hK' : KoC σ) (go : U_X2_laws_155 mc ms K E q x2 (lwIx w) 0 0 σ) : U_X2_laws mc ms σ q x2 K E := by
  refine ⟨hs'.2.1, cr_hash2 hs' hh ?_⟩
  by_cases c1 : hsh w = -892487843
  · refine br_t c1 (cr_one (t := 21) hs' hq hK' (by omega) rfl (u := standsWd) rfl (fun e => ?_) (fun e => ?_))
    · rw [e] at go; exact go
    · have : lwIx w = -1 := by
        unfold lwIx
        rw [if_neg e, if_neg (fun z => by rw [z] at c1; exact absurd c1 (by decide)), if_neg (fun z => by rw [z] at c1; exact absurd c1 (by decide)), if_neg (fun z => by rw [z] at c1; exact absurd c1 (by decide)), if_neg (fun z => by rw [z] at c1; exact absurd c1 (by decide)), if_neg (fun z => by rw [z] at c1; exact absurd c1 (by decide))]
      rw [this] at go; exact go
  refine br_f c1 ?_
  by_cases c2 : hsh w = 98262
  · refine br_t c2 (cr_one (t := 25) hs' hq hK' (by omega) rfl (u := catWd) rfl (fun e => ?_) (fun e => ?_))
    · rw [e] at go; exact go
    · have : lwIx w = -1 := by
        unfold lwIx
        rw [if_neg (fun z => by rw [z] at c2; exact absurd c2 (by decide)), if_neg (fun z => by rw [z] at c2; exact absurd c2 (by decide)), if_neg (fun z => by rw [z] at c2; exact absurd c2 (by decide)), if_neg (fun z => by rw [z] at c2; exact absurd c2 (by decide)), if_neg (fun z => by rw [z] at c2; exact absurd c2 (by decide)), if_neg e]
      rw [this] at go; exact go
  refine br_f c2 ?_
  by_cases c3 : hsh w = 3143098
  · refine br_t c3 (cr_one (t := 24) hs' hq hK' (by omega) rfl (u := fineWd) rfl (fun e => ?_) (fun e => ?_))
    · rw [e] at go; exact go
    · have : lwIx w = -1 := by
        unfold lwIx
        rw [if_neg (fun z => by rw [z] at c3; exact absurd c3 (by decide)), if_neg (fun z => by rw [z] at c3; exact absurd c3 (by decide)), if_neg (fun z => by rw [z] at c3; exact absurd c3 (by decide)), if_neg e, if_neg (fun z => by rw [z] at c3; exact absurd c3 (by decide)), if_neg (fun z => by rw [z] at c3; exact absurd c3 (by decide))]
      rw [this] at go; exact go
  refine br_f c3 ?_
  by_cases c4 : hsh w = 97196120
  · refine br_t c4 (cr_one (t := 22) hs' hq hK' (by omega) rfl (u := fallsWd) rfl (fun e => ?_) (fun e => ?_))
    · rw [e] at go; exact go
    · have : lwIx w = -1 := by
        unfold lwIx
        rw [if_neg (fun z => by rw [z] at c4; exact absurd c4 (by decide)), if_neg e, if_neg (fun z => by rw [z] at c4; exact absurd c4 (by decide)), if_neg (fun z => by rw [z] at c4; exact absurd c4 (by decide)), if_neg (fun z => by rw [z] at c4; exact absurd c4 (by decide)), if_neg (fun z => by rw [z] at c4; exact absurd c4 (by decide))]
      rw [this] at go; exact go
  refine br_f c4 ?_
  by_cases c5 : hsh w = 97440432
  · refine br_t c5 (cr_one (t := 11) hs' hq hK' (by omega) rfl (u := firstWd) rfl (fun e => ?_) (fun e => ?_))
    · rw [e] at go; exact go
    · have : lwIx w = -1 := by
        unfold lwIx
        rw [if_neg (fun z => by rw [z] at c5; exact absurd c5 (by decide)), if_neg (fun z => by rw [z] at c5; exact absurd c5 (by decide)), if_neg (fun z => by rw [z] at c5; exact absurd c5 (by decide)), if_neg (fun z => by rw [z] at c5; exact absurd c5 (by decide)), if_neg e, if_neg (fun z => by rw [z] at c5; exact absurd c5 (by decide))]
      rw [this] at go; exact go
  refine br_f c5 ?_
  by_cases c6 : hsh w = 110124236
  · refine br_t c6 (cr_one (t := 23) hs' hq hK' (by omega) rfl (u := takesWd) rfl (fun e => ?_) (fun e => ?_))
    · rw [e] at go; exact go
    · have : lwIx w = -1 := by
        unfold lwIx
        rw [if_neg (fun z => by rw [z] at c6; exact absurd c6 (by decide)), if_neg (fun z => by rw [z] at c6; exact absurd c6 (by decide)), if_neg e, if_neg (fun z => by rw [z] at c6; exact absurd c6 (by decide)), if_neg (fun z => by rw [z] at c6; exact absurd c6 (by decide)), if_neg (fun z => by rw [z] at c6; exact absurd c6 (by decide))]
      rw [this] at go; exact go
  · have : lwIx w = -1 := by
      unfold lwIx
      rw [if_neg (fun z => c1 (by rw [z]; decide)), if_neg (fun z => c4 (by rw [z]; decide)), if_neg (fun z => c6 (by rw [z]; decide)), if_neg (fun z => c3 (by rw [z]; decide)), if_neg (fun z => c5 (by rw [z]; decide)), if_neg (fun z => c2 (by rw [z]; decide))]
    rw [this] at go
    exact br_f c6 go
end CS0
