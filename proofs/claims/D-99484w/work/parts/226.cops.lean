/-! COMPONENT, PURE SIDE: the operations that only tell. -/
section CO1
variable {σ σ' : CS} {a : AS} {I : Isl} {K : Int32 → CS → Prop} {x y : Int32}
theorem br_b {A B : Prop} (b : Bool) (hf : b = false → A) (ht : b = true → B) : (b1 b = 0 → A) ∧ (¬ b1 b = 0 → B) := ⟨fun z => hf ((b1_eq b).mp z), fun z => ht ((b1_ne b).mp z)⟩
theorem bn_b {A B : Prop} (b : Bool) (hf : b = false → A) (ht : b = true → B) : (¬ b1 b = 0 → B) ∧ (b1 b = 0 → A) := ⟨fun z => ht ((b1_ne b).mp z), fun z => hf ((b1_eq b).mp z)⟩
theorem co_is {l hh : Int32} {lo hi : Int} (hl : l.toInt = lo) (hr : hh.toInt = hi) (hk : K (b1 (inR x lo hi)) σ) : U_X0_is σ x l hh K := by
  unfold U_X0_is
  unfold inR at hk
  rw [Int32.lt_iff_toInt_lt, Int32.lt_iff_toInt_lt, hl, hr]
  by_cases c1 : x.toInt < lo
  · rw [decide_eq_false (by omega)] at hk; exact br_t c1 hk
  · by_cases c2 : hi < x.toInt
    · rw [decide_eq_false (by omega)] at hk; exact br_f c1 (br_t c2 hk)
    · rw [decide_eq_true (by omega)] at hk; exact br_f c1 (br_f c2 hk)
theorem co_in {n : Nat} (hn : n < 2 ^ 31) (hk : K (b1 (inR x 0 ((n : Int) - 1))) σ) : ((x < 0 → K 0 σ) ∧ (¬ x < 0 → ((nI n ≤ x → K 0 σ) ∧ (¬ nI n ≤ x → K 1 σ)))) := by
  unfold inR at hk
  rw [Int32.lt_iff_toInt_lt, Int32.le_iff_toInt_le, nI_toInt hn, show (0 : Int32).toInt = 0 from rfl]
  by_cases c1 : x.toInt < 0
  · rw [decide_eq_false (by omega)] at hk; exact br_t c1 hk
  · by_cases c2 : (n : Int) ≤ x.toInt
    · rw [decide_eq_false (by omega)] at hk; exact br_f c1 (br_t c2 hk)
    · rw [decide_eq_true (by omega)] at hk; exact br_f c1 (br_f c2 hk)
theorem co_isThing (h : IsR σ I) (hI : IbC I) (hk : K (b1 (inR x 0 ((iC I 0 : Int) - 1))) σ) : U_X0_isThing σ x K := by
  have hb := hI.1
  have := co_in (by omega) hk
  exact ⟨this.1, fun z => cb_things h (this.2 z)⟩
theorem co_isMender (h : IsR σ I) (hI : IbC I) (hk : K (b1 (inR x 0 ((iC I 1 : Int) - 1))) σ) : U_X0_isMender σ x K := by
  have hb := hI.2.1
  have := co_in (by omega) hk
  exact ⟨this.1, fun z => cb_menders h (this.2 z)⟩
theorem co_isTrial (h : IsR σ I) (hI : IbC I) (hk : K (b1 (inR x 0 ((iC I 2 : Int) - 1))) σ) : U_X0_isTrial σ x K := by
  have hb := hI.2.2
  have := co_in (by omega) hk
  exact ⟨this.1, fun z => cb_trials h (this.2 z)⟩
theorem RC.is (h : RC a σ) : IsR σ (aI a) := h.2.2.2.1
theorem AOK.ib (h : AOK a) : IbC (aI a) := h.1.1
theorem co_fault (h : RC a σ) (hk : K (sp_fault a x) σ) : U_X0_fault σ x K := by
  unfold U_X0_fault
  unfold sp_fault at hk
  rw [h.2.2.1.1, h.2.2.1.2.1]
  by_cases c0 : x = 0
  · rw [if_pos c0] at hk; exact bn_f c0 hk
  · rw [if_neg c0] at hk
    refine bn_t c0 ?_
    by_cases c1 : x = 1
    · rw [if_pos c1] at hk; exact bn_f c1 hk
    · rw [if_neg c1] at hk; exact bn_t c1 hk
theorem co_status (h : RC a σ) (hk : K (sp_status a x) σ) : U_X0_status σ x K := by
  unfold sp_status at hk
  refine co_is (lo := 0) (hi := 5) rfl rfl (br_b _ (fun e => ?_) (fun e => ?_))
  · rw [e] at hk; exact hk
  · rw [e] at hk
    obtain ⟨q1, q2⟩ := inR_ix (n := 6) e (by omega)
    rw [q1, nI_clamp (by omega), h.2.2.1.2.2 _ q2]
    exact ⟨vi_ q2 (by omega), hk⟩
theorem co_mender (h : RC a σ) (ha : AOK a) (hk : K (sp_mender a x y) σ) : U_X0_mender σ x y K := by
  have hb := ha.ib
  unfold sp_mender isMe at hk
  refine co_isMender h.is hb (bn_b _ (fun e => ?_) (fun e => ?_))
  · rw [e] at hk; exact hk
  · rw [e, Bool.true_and] at hk
    have hb1 := hb.2.1
    obtain ⟨q1, q2⟩ := inR_ix e (by omega)
    rw [q1]
    by_cases c0 : y = 0
    · rw [c0, if_pos (by decide)] at hk
      refine bn_f c0 (cb_menderOf h.is q2 fun q k1 k2 k3 => ⟨q, rfl, k1, ?_⟩)
      rw [k2]; exact hk
    · refine bn_t c0 ?_
      by_cases c1 : y = 1
      · rw [c1, if_pos (by decide)] at hk
        refine bn_f c1 (cb_menderOf h.is q2 fun q k1 k2 k3 => ⟨q, rfl, k1, ?_⟩)
        rw [k3]; exact hk
      · refine bn_t c1 ?_
        have : inR y 0 1 = false := by
          cases e2 : inR y 0 1 with
          | false => rfl
          | true =>
            obtain ⟨r1, r2⟩ := inR_ix (n := 2) e2 (by omega)
            rcases (show ix y = 0 ∨ ix y = 1 by omega) with r3 | r3
            · rw [r3] at r1; exact absurd r1 c0
            · rw [r3] at r1; exact absurd r1 c1
        rw [this] at hk; exact hk
theorem co_takes (h : RC a σ) (ha : AOK a) (hk : ∀ σ', RC a σ' → K (sp_takes a x y) σ') : U_X0_takes σ x y K := by
  have hb := ha.ib
  unfold sp_takes isTh isMe at hk
  refine co_isThing h.is hb (br_b _ (fun e => ?_) (fun e => ?_))
  · rw [e] at hk; exact hk σ h
  refine co_isMender h.is hb (br_b _ (fun e2 => ?_) (fun e2 => ?_))
  · rw [e, e2] at hk; exact hk σ h
  rw [e, e2] at hk
  obtain ⟨q1, q2⟩ := inR_ix e (by have := hb.1; omega)
  obtain ⟨r1, r2⟩ := inR_ix e2 (by have := hb.2.1; omega)
  rw [q1, r1]
  exact cb_takes (h.ev ha) q2 r2 fun σ' f => hk σ' (h.p12 f)
theorem co_fine (h : RC a σ) (ha : AOK a) (hk : ∀ σ', RC a σ' → K (sp_fine a x y) σ') : U_X0_fine σ x y K := by
  have hb := ha.ib
  unfold sp_fine isTh isMe at hk
  refine co_isThing h.is hb (br_b _ (fun e => ?_) (fun e => ?_))
  · rw [e] at hk; exact hk σ h
  refine co_isMender h.is hb (br_b _ (fun e2 => ?_) (fun e2 => ?_))
  · rw [e, e2] at hk; exact hk σ h
  rw [e, e2] at hk
  obtain ⟨q1, q2⟩ := inR_ix e (by have := hb.1; omega)
  obtain ⟨r1, r2⟩ := inR_ix e2 (by have := hb.2.1; omega)
  rw [q1, r1]
  exact cb_fine (h.ev ha) q2 r2 fun σ' f => hk σ' (h.p12 f)
theorem co_trial (h : RC a σ) (ha : AOK a) (hk : ∀ σ', RC a σ' → K (sp_trial a x y) σ') : U_X0_trial σ x y K := by
  have hb := ha.ib
  unfold sp_trial isTh isTr at hk
  refine co_isTrial h.is hb (br_b _ (fun e => ?_) (fun e => ?_))
  · rw [e] at hk; exact hk σ h
  refine co_isThing h.is hb (br_b _ (fun e2 => ?_) (fun e2 => ?_))
  · rw [e, e2] at hk; exact hk σ h
  rw [e, e2] at hk
  obtain ⟨q1, q2⟩ := inR_ix e (by have := hb.2.2; omega)
  obtain ⟨r1, r2⟩ := inR_ix e2 (by have := hb.1; omega)
  rw [q1, r1]
  refine cb_trial (h.ev ha) q2 r2 fun σ' f => br_b _ (fun e3 => ?_) (fun e3 => ?_)
  · have := hk σ' (h.p12 f); rw [e3] at this; exact this
  · have := hk σ' (h.p12 f); rw [e3] at this; exact this
theorem co_thing (h : RC a σ) (ha : AOK a) (hk : ∀ σ', RC a σ' → K (sp_thing a x y) σ') : U_X0_thing σ x y K := by
  have hb := ha.ib
  have hb0 := hb.1
  unfold sp_thing isTh at hk
  refine co_isThing h.is hb (bn_b _ (fun e => ?_) (fun e => ?_))
  · rw [e] at hk; exact hk σ h
  rw [e, if_pos rfl] at hk
  obtain ⟨q1, q2⟩ := inR_ix e (by omega)
  have hk0 := hk σ h
  have v8 : vp_in (nI (ix x)) 8 := vi_ (by omega) (by omega)
  obtain ⟨s1, s2, s3, s4, s5⟩ := h.2.2.2.2.1.1.1.2 (ix x) (by omega)
  rw [q1]
  refine cb_thingOf h.is q2 fun q k1 k2 k3 k4 => ?_
  rw [nI_clamp (by omega)]
  by_cases c0 : y = 0
  · rw [c0] at hk0; refine br_t c0 ⟨q, rfl, k1, ?_⟩; rw [k2]; exact hk0
  refine br_f c0 ?_
  by_cases c1 : y = 1
  · rw [c1] at hk0; refine br_t c1 ⟨q, rfl, k1, ?_⟩; rw [k3]; exact hk0
  refine br_f c1 ?_
  by_cases c2 : y = 2
  · rw [c2] at hk0; refine br_t c2 ⟨q, rfl, k1, ?_⟩; rw [k4]; exact hk0
  refine br_f c2 ?_
  by_cases c3 : y = 3
  · rw [c3] at hk0; refine br_t c3 ⟨v8, ?_⟩; rw [s1]; exact hk0
  refine br_f c3 ?_
  have t1 : ∀ i j, 1 + 5 * i + j = (j + 1) + 5 * i := fun i j => by omega
  by_cases c4 : y = 4
  · rw [c4] at hk0; refine br_t c4 ⟨v8, ?_⟩; rw [s2, ← t1]; exact hk0
  refine br_f c4 ?_
  by_cases c5 : y = 5
  · rw [c5] at hk0; refine br_t c5 ⟨v8, ?_⟩; rw [s3, ← t1]; exact hk0
  refine br_f c5 ?_
  by_cases c6 : y = 6
  · rw [c6] at hk0; refine br_t c6 ⟨v8, ?_⟩; rw [s4, ← t1]; exact hk0
  refine br_f c6 ?_
  by_cases c7 : y = 7
  · rw [c7] at hk0; refine br_t c7 ⟨v8, ?_⟩
    have hb5 := (ha.2.1.2.1 (ix x) (by omega)).2.2.2.2
    have hk1 : K (nI ((aS a).1 (5 + 5 * ix x))) σ := by rw [← t1]; exact hk0
    rw [s5]
    rcases (show (aS a).1 (5 + 5 * ix x) = 0 ∨ (aS a).1 (5 + 5 * ix x) = 1 by omega) with e5 | e5
    · rw [e5] at hk1; rw [e5]; exact br_t rfl hk1
    · rw [e5] at hk1; rw [e5]; exact br_f (by decide) hk1
  refine br_f c7 ?_
  have n02 : inR y 0 2 = false := by
    cases e2 : inR y 0 2 with
    | false => rfl
    | true =>
      obtain ⟨r1, r2⟩ := inR_ix (n := 3) e2 (by omega)
      rcases (show ix y = 0 ∨ ix y = 1 ∨ ix y = 2 by omega) with r3 | r3 | r3
      · rw [r3] at r1; exact absurd r1 c0
      · rw [r3] at r1; exact absurd r1 c1
      · rw [r3] at r1; exact absurd r1 c2
  have n37 : inR y 3 7 = false := by
    cases e2 : inR y 3 7 with
    | false => rfl
    | true =>
      unfold inR at e2
      rw [decide_eq_true_eq] at e2
      have e3 : inR y 0 (((8 : Nat) : Int) - 1) = true := by unfold inR; rw [decide_eq_true_eq]; omega
      obtain ⟨r1, r2⟩ := inR_ix (n := 8) e3 (by omega)
      have r4 : y.toInt = ix y := by rw [r1, nI_toInt (by omega)]; congr 1; rw [← r1]
      rcases (show ix y = 3 ∨ ix y = 4 ∨ ix y = 5 ∨ ix y = 6 ∨ ix y = 7 by omega) with r3 | r3 | r3 | r3 | r3
      · rw [r3] at r1; exact absurd r1 c3
      · rw [r3] at r1; exact absurd r1 c4
      · rw [r3] at r1; exact absurd r1 c5
      · rw [r3] at r1; exact absurd r1 c6
      · rw [r3] at r1; exact absurd r1 c7
  rw [n02, n37] at hk
  by_cases c8 : y = 8
  · refine br_t c8 (cb_stands (h.ev ha) q2 ha.2.1.bd fun σ' f => br_b _ (fun e3 => ?_) (fun e3 => ?_))
    · have := hk σ' (h.p12 f); rw [if_neg (by decide), if_neg (by decide), if_pos c8, e3] at this; exact this
    · have := hk σ' (h.p12 f); rw [if_neg (by decide), if_neg (by decide), if_pos c8, e3] at this; exact this
  · have := hk σ h
    rw [if_neg (by decide), if_neg (by decide), if_neg c8] at this
    exact br_f c8 this
end CO1
