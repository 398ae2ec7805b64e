/-! COMPONENT, PURE SIDE: has, kept, octet, feed, end, seed. -/
section CO2
variable {σ σ' σ'' : CS} {a : AS} {I : Isl} {K : Int32 → CS → Prop} {x y : Int32} {P Q J : Nat → Prop} {i j n : Nat} {B : Byt} {fk fp : Int32} {rf : Nat → Int32} {O : Nat → Nat} {on : Nat}
theorem FrO.refl (hz : σ.1 ≤ CB) : FrO P J σ σ := ⟨Nat.le_refl _, hz, fun _ _ => rfl, fun i _ _ _ => agr.refl σ i, rfl, rfl, fun _ _ => rfl⟩
theorem FrO.trans (h : FrO P J σ σ') (h' : FrO P J σ' σ'') : FrO P J σ σ'' := by
  obtain ⟨a1, a2, a3, a4, a5, a6, a7⟩ := h
  obtain ⟨b1, b2, b3, b4, b5, b6, b7⟩ := h'
  exact ⟨Nat.le_trans a1 b1, b2, fun i hi => (b3 i (by omega)).trans (a3 i hi), fun i hi hp h0 => (a4 i hi hp h0).trans (b4 i (by omega) hp h0), b5.trans a5, b6.trans a6, fun j hj => (b7 j hj).trans (a7 j hj)⟩
theorem FrO.wI {v : Int32} (h : FrO P J σ σ') (hi : (i ≠ 0 ∧ P i) ∨ (i = 0 ∧ J j)) : FrO P J σ (wI σ' i j v) := by
  obtain ⟨a1, a2, a3, a4, a5, a6, a7⟩ := h
  refine ⟨a1, a2, a3, fun i' hi' hp h0 => (a4 i' hi' hp h0).wI (fun z => ?_), a5, a6, fun j' hj' => ?_⟩
  · subst z; rcases hi with h | h
    · exact hp h.2
    · exact h0 h.1
  · rw [gI_wn]
    · exact a7 j' hj'
    · rcases hi with h | ⟨h, h2⟩
      · omega
      · exact fun z => hj' (by rw [z.2]; exact h2)
theorem RC.up (h : RC a σ) (f : FrO P J σ σ') (hP : ∀ i, P i → scC i ∨ obP 74 i ∨ i = 8 ∨ i = 15 ∨ i = 1295) (hJ : ∀ j, J j → j ≠ 15) (hr : RwC σ' 74 0 (fun _ => 0)) (t : TpC σ' B n) (fl : FlC σ' fk fp rf) (ou : OuC σ' O on) : RC (B, n, fk, fp, rf, aI a, aS a, aU a, aSd a, O, on) σ' := by
  obtain ⟨b, -, -, is, nw, -, kp, sd, -⟩ := h
  obtain ⟨f1, f2, f3, f4, f5, f6, f7⟩ := f
  have hz := b.1.1
  have hcb := CBv
  have nP : ∀ i, ((16 ≤ i ∧ i < 74) ∨ (134 ≤ i ∧ i ≠ 1295) ∨ (0 < i ∧ i < 8)) → ¬ P i := fun i hi z => by
    rcases hP i z with h | h | h
    · unfold scC at h; omega
    · unfold obP at h; omega
    · omega
  have ag : ∀ i, ((16 ≤ i ∧ i < 74) ∨ (134 ≤ i ∧ i < 1295) ∨ (0 < i ∧ i < 8)) → agr σ σ' i := fun i hi => f4 i (Or.inl (by omega)) (nP i (by omega)) (by omega)
  refine ⟨b.mv f1 f2 f3 (fun i hi => f4 i (Or.inr hi) (nP i (by omega)) (by omega)), t, fl, is.fr (by rw [f5]) (fun i hi => ?_) f1, nw.mv (fun i h1 h2 => ag i (by omega)), hr, kp.mv (f7 15 (fun z => hJ 15 z rfl)) (fun i h1 h2 => ag i (by omega)), ?_, ou⟩
  · rcases hi with h | h
    · exact ag i (by omega)
    · exact f4 i (Or.inl h.2) (nP i (by omega)) (by omega)
  · show gL σ' 0 16 = aSd a
    rw [f6]; exact sd
theorem RC.rw74 (h : RC a σ) (f : ∀ i, 74 ≤ i → i < 132 → agr σ σ' i) : RwC σ' 74 0 (fun _ => 0) := h.2.2.2.2.2.1.fr (by omega) (fun i h1 h2 => f i (by omega) (by omega))
/-- the tape moves, its length too -/
theorem RC.tape (h : RC a σ) (f : FrO (fun i => i = 8) (fun j => j = 2) σ σ') (t : TpC σ' B n) : RC (B, n, a.2.2) σ' := by
  have hcb := CBv
  have hz := h.1.1
  have ag : ∀ i, i ≠ 0 → i ≠ 8 → i < 1296 → agr σ σ' i := fun i h0 h8 hi => f.2.2.2.1 i (Or.inl (by omega)) h8 h0
  exact h.up f (fun i z => by have : i = 8 := z; omega) (fun j z => by have : j = 2 := z; omega) (h.rw74 (fun i h1 h2 => ag i (by omega) (by omega) (by omega))) t (h.2.2.1.mv (f.2.2.2.2.2.2 3 (by omega)) (f.2.2.2.2.2.2 4 (by omega)) (ag 15 (by omega) (by omega) (by omega)).2.1) (h.2.2.2.2.2.2.2.2.mv (f.2.2.2.2.2.2 19 (by omega)) (ag 1295 (by omega) (by omega) (by omega)).2.1)
theorem RC.tn (h : RC a σ) (hn : n ≤ 1600) : RC (aTp a, n, a.2.2) (wI σ 0 2 (nI n)) := by
  refine h.tape ((FrO.refl h.z).wI (Or.inr ⟨rfl, rfl⟩)) ⟨hn, gI_ws, fun i hi => ?_, h.2.1.2.2.2⟩
  rw [gI_wi (by omega)]; exact h.2.1.2.2.1 i hi
theorem t255 : ∀ i (h : i < 8), (255#32)[i]'(Nat.lt_trans h (by decide)) = true := by decide
theorem low8 (x : Int32) : x.toInt8 = (x &&& 255).toInt8 := by
  apply Int8.toBitVec_inj.1
  rw [Int32.toBitVec_toInt8, Int32.toBitVec_toInt8, Int32.toBitVec_and]
  apply BitVec.eq_of_getLsbD_eq
  intro i hi
  simp only [BitVec.getLsbD_signExtend, BitVec.getLsbD_setWidth, BitVec.getLsbD_and]
  simp [hi, show i < 32 by omega]
  exact fun _ => t255 i hi
theorem by_I : ∀ c, c < 256 → vp_nar .byte ((Int32.toInt8 (nI c)).toInt32) = sB c := by decide +kernel
theorem byt_I (x : Int32) : vp_nar .byte ((Int32.toInt8 x).toInt32) = sB (x &&& 255).toBitVec.toNat := by
  obtain ⟨h1, h2⟩ := and255 x
  rw [low8 x, h1, by_I _ h2, ← h1]
def wB (w : Int32) (j : Nat) : Nat := ((w >>> (nI (8 * (3 - j)) &&& 31)) &&& 255).toBitVec.toNat
theorem RC.byte (h : RC a σ) (hn : aTn a < 1600) {c : Nat} (hc : c < 256) : RC ((fun i => if i = aTn a then c else aTp a i), aTn a + 1, a.2.2) (wI (wI σ 0 2 (nI (aTn a) + 1)) 8 (aTn a) (sB c)) := by
  have f : FrO (fun i => i = 8) (fun j => j = 2) σ (wI (wI σ 0 2 (nI (aTn a) + 1)) 8 (aTn a) (sB c)) := by
    refine FrO.wI (FrO.wI (FrO.refl h.z) ?_) ?_
    · exact Or.inr ⟨rfl, rfl⟩
    · exact Or.inl ⟨by omega, rfl⟩
  refine h.tape f ⟨hn, ?_, fun i hi => ?_, fun i => ?_⟩
  · rw [gI_wi (by omega), gI_ws, nI_1]
  · dsimp only
    by_cases e : i = aTn a
    · rw [e, if_pos rfl]; exact gI_ws
    · rw [if_neg e, gI_wn (by omega), gI_wi (by omega)]; exact h.2.1.2.2.1 i hi
  · dsimp only
    split
    · exact hc
    · exact h.2.1.2.2.2 i
def puB (B : Byt) (n : Nat) (w : Int32) : Byt := fun i => if n ≤ i ∧ i < n + 4 then wB w (i - n) else B i
theorem co_put {K : Unit → CS → Prop} {w : Int32} (h : RC a σ) (hn : aTn a + 4 ≤ 1600) (hk : ∀ σ', RC (puB (aTp a) (aTn a) w, aTn a + 4, a.2.2) σ' → K () σ') : U_X0_put σ w K := by
  refine ⟨5, ?_⟩
  have lp : ∀ (d f j : Nat) (σ' : CS) (x2 : Int32), 4 - j = d → d < f → j ≤ 4 → (j < 4 → x2 = nI (8 * (3 - j))) → (j = 4 → x2 = -8) → RC ((fun i => if aTn a ≤ i ∧ i < aTn a + j then wB w (i - aTn a) else aTp a i), aTn a + j, a.2.2) σ' → U_X0_put_3 K w f x2 σ' := by
    intro d
    induction d with
    | zero =>
      intro f j σ' x2 hd hf hj e1 e2 hR
      obtain ⟨f, rfl⟩ : ∃ f', f = f' + 1 := ⟨f - 1, by omega⟩
      obtain rfl : j = 4 := by omega
      rw [e2 rfl]
      unfold U_X0_put_3
      exact br_t (by decide) (hk σ' hR)
    | succ d ih =>
      intro f j σ' x2 hd hf hj e1 e2 hR
      obtain ⟨f, rfl⟩ : ∃ f', f = f' + 1 := ⟨f - 1, by omega⟩
      rw [e1 (by omega)]
      unfold U_X0_put_3
      have e2 : gI σ' 0 2 = nI (aTn a + j) := hR.2.1.2.1
      rw [e2, nI_clamp (by omega), byt_I]
      have hb := hR.byte (c := wB w j) (show aTn a + j < 1600 by omega) (and255 _).2
      refine br_f (nI_pos (by omega)) (st_ ⟨vi_ (by omega) (by omega), st_ (ih f (j + 1) _ _ (by omega) (by omega) (by omega) (fun hj4 => ?_) (fun hj4 => ?_) ?_)⟩)
      · rcases (show j = 0 ∨ j = 1 ∨ j = 2 by omega) with rfl | rfl | rfl <;> decide
      · obtain rfl : j = 3 := by omega
        decide
      · have : (fun i => if aTn a ≤ i ∧ i < aTn a + (j + 1) then wB w (i - aTn a) else aTp a i) = (fun i => if i = aTn a + j then wB w j else if aTn a ≤ i ∧ i < aTn a + j then wB w (i - aTn a) else aTp a i) := by
          funext i
          by_cases e : i = aTn a + j
          · subst e; rw [if_pos (by omega), if_pos rfl, Nat.add_sub_cancel_left]
          · rw [if_neg e]
            by_cases e3 : aTn a ≤ i ∧ i < aTn a + j
            · rw [if_pos e3, if_pos (by omega)]
            · rw [if_neg e3, if_neg (by omega)]
        rw [this]
        exact hb
  refine lp 4 5 0 σ 24 rfl (by omega) (by omega) (fun _ => rfl) (fun z => by omega) ?_
  have : (fun i => if aTn a ≤ i ∧ i < aTn a + 0 then wB w (i - aTn a) else aTp a i) = aTp a := by
    funext i; rw [if_neg (by omega)]
  rw [this]; exact h
theorem co_feed {x1 x2 x3 x4 x5 : Int32} (h : RC a σ) (hk : ∀ σ', RC (sp_feed a x1 x2 x3 x4 x5).2 σ' → K (sp_feed a x1 x2 x3 x4 x5).1 σ') : U_X0_feed σ x1 x2 x3 x4 x5 K := by
  have hn := h.2.1.1
  unfold U_X0_feed
  rw [h.2.1.2.1, show nI (aTn a) + 20 = nI (aTn a + 20) from nI_add _ 20]
  by_cases hc : aTn a + 20 ≤ 1600
  · have hsp : sp_feed a x1 x2 x3 x4 x5 = (nI (aTn a + 20), (fun i => if aTn a ≤ i ∧ i < aTn a + 20 then fdB x1 x2 x3 x4 x5 (i - aTn a) else aTp a i), aTn a + 20, aFk a, aFp a, aRf a, aI a, aS a, aU a, aSd a, aOu a, aOn a) := by unfold sp_feed; rw [if_pos hc]
    rw [hsp] at hk
    refine br_t (show nI _ ≤ nI 1600 from nI_le hc (by omega)) (co_put h (by omega) fun s1 r1 => co_put r1 (show aTn a + 4 + 4 ≤ 1600 by omega) fun s2 r2 => co_put r2 (show aTn a + 4 + 4 + 4 ≤ 1600 by omega) fun s3 r3 => co_put r3 (show aTn a + 4 + 4 + 4 + 4 ≤ 1600 by omega) fun s4 r4 => co_put r4 (show aTn a + 4 + 4 + 4 + 4 + 4 ≤ 1600 by omega) fun s5 r5 => ?_)
    have e2 : gI s5 0 2 = nI (aTn a + 4 + 4 + 4 + 4 + 4) := r5.2.1.2.1
    rw [e2]
    refine hk s5 ?_
    have e : (fun i => if aTn a ≤ i ∧ i < aTn a + 20 then fdB x1 x2 x3 x4 x5 (i - aTn a) else aTp a i) = puB (puB (puB (puB (puB (aTp a) (aTn a) x1) (aTn a + 4) x2) (aTn a + 4 + 4) x3) (aTn a + 4 + 4 + 4) x4) (aTn a + 4 + 4 + 4 + 4) x5 := by
      funext i
      unfold puB
      by_cases c : aTn a ≤ i ∧ i < aTn a + 20
      · rw [if_pos c]
        unfold fdB wB fdW
        by_cases c5 : aTn a + 16 ≤ i
        · rw [if_pos (c := aTn a + 4 + 4 + 4 + 4 ≤ i ∧ _) (by omega), if_neg (by omega), if_neg (by omega), if_neg (by omega), if_neg (by omega), show (i - aTn a) % 4 = i - (aTn a + 4 + 4 + 4 + 4) by omega]
        rw [if_neg (c := aTn a + 4 + 4 + 4 + 4 ≤ i ∧ _) (by omega)]
        by_cases c4 : aTn a + 12 ≤ i
        · rw [if_pos (c := aTn a + 4 + 4 + 4 ≤ i ∧ _) (by omega), if_neg (by omega), if_neg (by omega), if_neg (by omega), if_pos (by omega), show (i - aTn a) % 4 = i - (aTn a + 4 + 4 + 4) by omega]
        rw [if_neg (c := aTn a + 4 + 4 + 4 ≤ i ∧ _) (by omega)]
        by_cases c3 : aTn a + 8 ≤ i
        · rw [if_pos (c := aTn a + 4 + 4 ≤ i ∧ _) (by omega), if_neg (by omega), if_neg (by omega), if_pos (by omega), show (i - aTn a) % 4 = i - (aTn a + 4 + 4) by omega]
        rw [if_neg (c := aTn a + 4 + 4 ≤ i ∧ _) (by omega)]
        by_cases c2 : aTn a + 4 ≤ i
        · rw [if_pos (c := aTn a + 4 ≤ i ∧ _) (by omega), if_neg (by omega), if_pos (by omega), show (i - aTn a) % 4 = i - (aTn a + 4) by omega]
        rw [if_neg (c := aTn a + 4 ≤ i ∧ _) (by omega), if_pos (c := aTn a ≤ i ∧ _) (by omega), if_pos (by omega), show (i - aTn a) % 4 = i - aTn a by omega]
      · rw [if_neg c, if_neg (by omega), if_neg (by omega), if_neg (by omega), if_neg (by omega), if_neg (by omega)]
    show RC ((fun i => if aTn a ≤ i ∧ i < aTn a + 20 then fdB x1 x2 x3 x4 x5 (i - aTn a) else aTp a i), aTn a + 20, a.2.2) s5
    rw [e]
    exact r5
  · have hsp : sp_feed a x1 x2 x3 x4 x5 = (-1, aRef a 0) := by unfold sp_feed; rw [if_neg hc]
    rw [hsp] at hk
    exact br_f (show ¬ nI _ ≤ nI 1600 from nI_ge (by omega) (by omega)) (co_refuses (k := 0) h (by omega) hk)
theorem co_0 {k : Nat} (h : RC a σ) (hk : k < 6) (go : ∀ σ', RC (aRef a k) σ' → K 0 σ') : U_X0_refuses σ (nI k) (fun r2 σ1 => ((r2 < 0 → K 0 σ1) ∧ (¬ r2 < 0 → K 1 σ1))) := co_refuses h hk fun σ' h' => br_t (by decide) (go σ' h')
theorem co_end (h : RC a σ) (hk : ∀ σ', RC (sp_end a x).2 σ' → K (sp_end a x).1 σ') : U_X0_end σ x K := by
  have hn := h.2.1.1
  unfold U_X0_end
  unfold sp_end at hk
  rw [h.2.1.2.1, Int32.lt_iff_toInt_lt, Int32.le_iff_toInt_le, nI_toInt (by omega), show (0 : Int32).toInt = 0 from rfl]
  cases e : inR x 0 (aTn a) with
  | false =>
    rw [e] at hk
    unfold inR at e
    rw [decide_eq_false_iff_not] at e
    by_cases c1 : x.toInt < 0
    · exact br_t c1 (co_0 (k := 0) h (by omega) hk)
    · exact br_f c1 (br_f (by omega) (co_0 (k := 0) h (by omega) hk))
  | true =>
    rw [e] at hk
    have e' : inR x 0 (((aTn a + 1 : Nat) : Int) - 1) = true := by rw [show (((aTn a + 1 : Nat) : Int) - 1) = (aTn a : Int) by omega]; exact e
    obtain ⟨q1, q2⟩ := inR_ix e' (by omega)
    unfold inR at e
    rw [decide_eq_true_eq] at e
    refine br_f (by omega) (br_t (by omega) (st_ (hk _ ?_)))
    have := h.tn (n := ix x) (by omega)
    rw [← q1] at this
    exact this
theorem co_seed (h : RC a σ) (hk : ∀ σ', RC (sp_seed a x).2 σ' → K (sp_seed a x).1 σ') : U_X0_seed σ x K := by
  unfold U_X0_seed
  unfold sp_seed at hk
  by_cases c : x < 0
  · rw [if_pos c] at hk
    exact br_f (fun z => by rw [Int32.lt_iff_toInt_lt] at c; rw [Int32.le_iff_toInt_le] at z; omega) (co_0 (k := 5) h (by omega) hk)
  · rw [if_neg c] at hk
    refine br_t (by rw [Int32.lt_iff_toInt_lt] at c; rw [Int32.le_iff_toInt_le]; omega) (st_ (hk _ ?_))
    obtain ⟨b, t, fl, is, nw, tr, kp, sd, ou⟩ := h
    have ag : ∀ i, i ≠ 0 → agr σ (wL σ 0 16 x.toInt64) i := fun i hi => (agr.refl σ i).wL hi
    have hcb := CBv
    exact ⟨b.mv (Nat.le_refl _) b.1.2 (fun i _ => rfl) (fun i hi => ag i (by omega)), t, fl, is.fr rfl (fun i hi => ag i (by have := dyn_not hi; omega)) (Nat.le_refl _), nw.mv (fun i h1 h2 => ag i (by omega)), tr.fr (by omega) (fun i h1 h2 => ag i (by omega)), kp.mv rfl (fun i h1 h2 => ag i (by omega)), gL_ws, ou⟩
theorem co_octet (h : RC a σ) (hk : K (sp_octet a x) σ) : U_X0_octet σ x K := by
  obtain ⟨o1, o2, o3⟩ := h.2.2.2.2.2.2.2.2
  unfold sp_octet at hk
  unfold U_X0_octet
  rw [o2, Int32.lt_iff_toInt_lt, Int32.lt_iff_toInt_lt, nI_toInt (by omega), show (0 : Int32).toInt = 0 from rfl]
  cases e : inR x 0 ((aOn a : Int) - 1) with
  | true =>
    rw [e] at hk
    obtain ⟨q1, q2⟩ := inR_ix e (by omega)
    unfold inR at e
    rw [decide_eq_true_eq] at e
    refine br_f (by omega) (br_t (by omega) ?_)
    rw [q1, nI_clamp (by omega), (o3 _ q2).1, sB_255 _ (o3 _ q2).2]
    exact ⟨vi_ (by omega) (by omega), hk⟩
  | false =>
    rw [e] at hk
    unfold inR at e
    rw [decide_eq_false_iff_not] at e
    by_cases c : x.toInt < 0
    · exact br_t c hk
    · exact br_f c (br_f (by omega) hk)
theorem co_kept (h : RC a σ) (hk : K (sp_kept a x y) σ) : U_X0_kept σ x y K := by
  obtain ⟨c1, c2, c3, p, p1, p2, p3⟩ := h.2.2.2.2.1.1
  have e0 : (nI (aS a).2.1 - 1).toInt = ((aS a).2.1 : Int) - 1 := by
    rw [← Int32.toInt_toInt64]; exact pred_int (by omega)
  unfold U_X0_kept
  rw [c2]
  unfold sp_kept at hk
  refine co_is rfl e0 (br_b _ (fun e => ?_) (fun e => ?_))
  · rw [show (0 : Int32).toInt = 0 from rfl] at e; rw [e] at hk; exact hk
  rw [show (0 : Int32).toInt = 0 from rfl] at e
  obtain ⟨q1, q2⟩ := inR_ix e (by omega)
  refine co_is (lo := 0) (hi := 2) rfl rfl (br_b _ (fun e2 => ?_) (fun e2 => ?_))
  · rw [e, e2] at hk; exact hk
  rw [e, e2] at hk
  obtain ⟨r1, r2⟩ := inR_ix (n := 3) e2 (by omega)
  rw [q1, r1, nI_clamp (by omega), nI_clamp (by omega)]
  obtain ⟨w1, w2⟩ := p1 (ix x) (by omega)
  have kk := row_kind h.sta (Or.inl rfl) w2
  refine ⟨vi_ (by omega) (by omega), 16 + 7 + p (ix x), w1, gKN kk, ?_, ?_⟩
  · rw [gN_of kk]; exact vi_ r2 (by omega)
  · rw [p3 _ _ q2 r2]; exact hk
theorem co_has (h : RC a σ) (ha : AOK a) (hk : ∀ σ', RC a σ' → K (sp_has a x) σ') : U_X0_has_2 σ x K := by
  have hb := ha.ib
  have hE := h.ev ha
  have hB := ha.2.1.bd
  have hk0 := hk σ h
  obtain ⟨⟨⟨s0, -⟩, s1, -⟩, -⟩ := h.2.2.2.2.1
  have u2 := h.2.2.2.2.2.2.1.2.1
  unfold U_X0_has_2
  unfold sp_has at hk hk0
  by_cases c0 : x = 0
  · rw [if_pos c0] at hk0
    exact br_t c0 (cb_things h.is hk0)
  rw [if_neg c0] at hk hk0
  refine br_f c0 ?_
  by_cases c1 : x = 1
  · rw [if_pos c1] at hk0
    exact br_t c1 (cb_menders h.is hk0)
  rw [if_neg c1] at hk hk0
  refine br_f c1 ?_
  by_cases c2 : x = 2
  · rw [if_pos c2] at hk0
    exact br_t c2 (cb_trials h.is hk0)
  rw [if_neg c2] at hk hk0
  refine br_f c2 ?_
  by_cases c3 : x = 3
  · rw [if_pos c3] at hk0
    exact br_t c3 (by rw [s0]; exact hk0)
  rw [if_neg c3] at hk hk0
  refine br_f c3 ?_
  by_cases c4 : x = 4
  · rw [if_pos c4] at hk0
    exact br_t c4 (cb_are (x := 1) rfl (by omega) hE hB (cb_bits (setN_256 _ hb.1) hk0))
  rw [if_neg c4] at hk hk0
  refine br_f c4 ?_
  by_cases c5 : x = 5
  · rw [if_pos c5] at hk0
    exact br_t c5 (cb_are (x := 2) rfl (by omega) hE hB (cb_bits (setN_256 _ hb.1) hk0))
  rw [if_neg c5] at hk hk0
  refine br_f c5 ?_
  by_cases c6 : x = 6
  · rw [if_pos c6] at hk
    exact br_t c6 (cb_standing hE hB fun σ' f => cb_bits (setN_256 _ hb.1) (hk σ' (h.p12 f)))
  rw [if_neg c6] at hk hk0
  refine br_f c6 ?_
  by_cases c7 : x = 7
  · rw [if_pos c7] at hk0
    exact br_t c7 (cb_forged hE hB (cb_bits (setN_256 _ hb.1) hk0))
  rw [if_neg c7] at hk hk0
  refine br_f c7 ?_
  by_cases c8 : x = 8
  · rw [if_pos c8] at hk
    exact br_t c8 (cb_standing hE hB fun σ' f => cb_useOf (h.p12 f).is hb (setN_256 _ hb.1) (hk σ' (h.p12 f)))
  rw [if_neg c8] at hk hk0
  refine br_f c8 ?_
  by_cases c9 : x = 9
  · rw [if_pos c9] at hk0
    exact br_t c9 (by rw [s1]; exact hk0)
  rw [if_neg c9] at hk hk0
  refine br_f c9 ?_
  by_cases c10 : x = 10
  · rw [if_pos c10] at hk0
    exact br_t c10 (by rw [u2]; exact hk0)
  rw [if_neg c10] at hk0
  exact br_f c10 hk0
end CO2
