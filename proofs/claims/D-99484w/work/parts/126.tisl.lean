/-! PURE SIDE: the model's island(). -/
section TK
variable {a : AS} {τb τ τ' : Sto} {B : Byt} {n k st : Nat} {I : Isl} {K : Int32 → Sto → Prop}
theorem scrI_T {i j : Nat} (h : scrI i j) : scrT i j := by
  unfold scrI at h; unfold scrT
  rcases h with ⟨h, h'⟩ | h | h | h | h | h | h | h | h
  · rcases h' with h' | h' | h' | h' | h' | h' | h' | h' | h' | h' | h' | h' | h' <;> simp [h, h']
  · simp [h]
  · simp [h]
  · simp [h.1, h.2]
  · simp [h.1, h.2]
  · simp [h.1, h.2]
  · simp [h.1, h.2]
  · simp [h.1, h.2]
  · simp [h.1, h.2]
theorem scrT_0 {j : Nat} (h : ¬ scrT 0 j) : j ≠ 3 ∧ j ≠ 2 ∧ j ≠ 5 ∧ j ≠ 49 ∧ j ≠ 48 ∧ j ≠ 43 ∧ j ≠ 4 ∧ j ≠ 6 := by
  refine ⟨?_, ?_, ?_, ?_, ?_, ?_, ?_, ?_⟩ <;> rintro rfl <;> exact h (by simp [scrT])
theorem iniF_0 {j : Nat} (h : j ≠ 3 ∧ j ≠ 1 ∧ j ≠ 2 ∧ j ≠ 5 ∧ j ≠ 49 ∧ j ≠ 48 ∧ j ≠ 43 ∧ j ≠ 4 ∧ j ≠ 6) : iniF τ 0 j = τ.1 0 j := by
  unfold iniF
  rw [if_pos rfl, if_neg h.1, if_neg (by omega), if_neg (by omega)]
theorem iniF_ne {i j : Nat} (h : i ≠ 0) (h2 : ¬ (i = 40 ∧ j < 3)) (h3 : ¬ (i = 46 ∧ j < 10)) : iniF τ i j = τ.1 i j := by
  unfold iniF
  rw [if_neg h, if_neg h2, if_neg h3]
theorem st0_ok : StOK st0 := ⟨Nat.zero_le _, fun t _ => ⟨Nat.zero_le _, Nat.zero_le _, Nat.zero_le _, Nat.zero_le _, Nat.zero_le _⟩, Nat.zero_le _⟩
theorem T_island_law (h : RT a τ) (hk : ∀ τ', RT (sp_island a).2 τ' → K (sp_island a).1 τ') : T_island τ K := by
  have hR := h
  obtain ⟨⟨a1, a2, a3, a4⟩, ⟨b1, b2, b3⟩, c, ⟨d1, d2, d3⟩, ⟨s1, s2⟩, ⟨u1, u2, nw, u3, u4, u5⟩, ⟨g1, g2⟩, ⟨o1, o2, o3⟩, ⟨f1, f2, f3⟩⟩ := h
  refine isl_ini fun τb e el => ⟨aTn a + 1, ?_⟩
  have hTb : TxT τb (aTp a) (aTn a) := by
    refine ⟨a1, by rw [e]; exact a2, fun i hi => ?_, a4, fun p hp i hi => ?_⟩
    · rw [e, iniF_ne (by omega) (by omega) (by omega)]; exact a3 i (by omega)
    · have : ∀ p, p ∈ wTab → p.1 ≠ 0 ∧ p.1 ≠ 40 ∧ p.1 ≠ 46 := by decide
      have := this p hp
      rw [e, iniF_ne (by omega) (by omega) (by omega)]; exact c p hp i hi
  have hI0 : RI τb (aTp a) (aTn a) τb 0 i0 0 := by
    refine ⟨⟨FrI.refl _, by omega, by rw [e]; rfl, ⟨⟨0, by omega, Or.inr (by rw [e]; rfl)⟩, ?_⟩, ⟨by rw [e]; rfl, by rw [e]; rfl⟩, ?_⟩, by rw [e]; rfl, by rw [e]; rfl, ?_, 0, by omega, by rw [e]; rfl, ?_⟩
    · rw [show τb.1 0 4 = -1 by rw [e]; rfl]
      have hle := skp_le (B := aTp a) (n := aTn a) (k := 0) (by omega)
      constructor
      · intro z; exact absurd z (nI_m1 (by omega))
      · intro z
        exfalso
        by_cases hp : skp (aTp a) (aTn a) 0 = 0
        · rw [hp] at z; simp [pA] at z
        · rw [pA_skp (by omega)] at z; cases z
    · obtain ⟨c', hc', hc2⟩ := f3
      exact ⟨c', hc', by rw [e, iniF_0 (by omega)]; exact hc2⟩
    · refine ⟨⟨by decide, by decide, by decide⟩, fun kd j hk hj => absurd hj (Nat.not_lt_zero _), fun t ht => absurd ht (Nat.not_lt_zero _), fun m hm => absurd hm (Nat.not_lt_zero _), by decide, fun j hj => absurd hj (Nat.not_lt_zero _), ⟨rfl, rfl, rfl⟩, rfl, rfl⟩
    · refine ⟨fun kd hk => ?_, fun kd j hk hj => absurd hj (Nat.not_lt_zero _), fun j hj => absurd hj (Nat.not_lt_zero _), fun j hj => absurd hj (Nat.not_lt_zero _), fun w hw _ _ => ?_, fun w t hw ht => (by cases ht), fun w v hw hv => (by cases hv)⟩
      · rw [e]; unfold iniF; rw [if_neg (by omega), if_pos ⟨rfl, by omega⟩]; rfl
      · rw [e]; unfold iniF; rw [if_neg (by omega), if_neg (by omega), if_pos ⟨rfl, by omega⟩]
  -- what no reading touches
  have keep : ∀ {τ' : Sto}, FrI τb τ' → (∀ i j, ¬ scrT i j → ¬ (i = 0 ∧ j = 1) → τ'.1 i j = τ.1 i j) ∧ (∀ i j, ¬ scrTL i j → τ'.2.1 i j = τ.2.1 i j) := by
    intro τ' hf
    refine ⟨fun i j h1 h2 => ?_, fun i j h1 => ?_⟩
    · rw [hf.1 i j (fun z => h1 (scrI_T z)), e]
      by_cases hi : i = 0
      · subst hi
        have := scrT_0 h1
        exact iniF_0 (by omega)
      · exact iniF_ne hi (fun z => h1 (by simp [scrT, z.1, z.2])) (fun z => h1 (by simp [scrT, z.1, z.2]))
    · rw [hf.2 i j (fun z => h1 (Or.inl z)), el]
  have t1 : ∀ {τ' : Sto}, FrI τb τ' → τ'.1 0 1 = 0 := fun hf => by rw [hf.1 0 1 (by simp [scrI]), e]; rfl
  refine isl_89 (B := aTp a) (n := aTn a) hTb (aTn a + 1) (aTn a + 1) 0 i0 0 τb (by omega) (by omega) hI0 (by omega) (fun I' st' e1 k' τ1 hI1 => ?_) (fun kd pl e1 τ1 g1 => ?_)
  · -- it stands
    obtain ⟨⟨r1, r2, r3, r4, ⟨r5, r5'⟩, r6⟩, q1, q2, q3, cd, q4, q5, q6⟩ := hI1
    obtain ⟨kp, kl⟩ := keep r1
    have hsp : sp_island a = (nI st', aTp a, 0, 0, -1, aRf a, I', st0, [], aSd a, aOu a, aOn a) := by unfold sp_island; rw [e1]
    rw [hsp] at hk
    unfold T_island_111
    refine st_ (st_ (br_t (by rw [sI_ne (by omega), sI_ne (by omega)]; exact r5) ?_))
    rw [r5, sI_ne (by omega), r5']
    have hcdn : cd ≤ 1600 := by omega
    refine T_stands0_law (cd := cd) hcdn (by rw [sI_ne (by omega), sI_ne (by omega)]; exact q5) fun τ2 e2 el2 => ?_
    have e3 : ∀ i j, i ≠ 0 → (sI (sI τ1 0 7 0) 0 8 (-1)).1 i j = τ1.1 i j := fun i j hi => by rw [sI_neI hi, sI_neI hi]
    have e4 : ∀ j, j ≠ 7 → j ≠ 8 → (sI (sI τ1 0 7 0) 0 8 (-1)).1 0 j = τ1.1 0 j := fun j h7 h8 => by rw [sI_ne (by omega), sI_ne (by omega)]
    have st_0 : ∀ j, j ≠ 65 → j ≠ 44 → j ≠ 7 → j ≠ 8 → τ2.1 0 j = τ1.1 0 j := fun j h1 h2 h3 h4 => by
      rw [e2]; unfold stdF
      rw [if_neg (by omega), if_neg (by omega), if_neg (by omega), if_neg (by omega), if_neg (by omega), if_neg (by omega), if_neg (by omega), if_neg (by omega)]
      exact e4 j h3 h4
    have st_i : ∀ i j, i ≠ 0 → i ≠ 52 → i ≠ 48 → i ≠ 46 → i ≠ 47 → i ≠ 43 → i ≠ 42 → i ≠ 40 → τ2.1 i j = τ1.1 i j := fun i j h1 h2 h3 h4 h5 h6 h7 h8 => by
      rw [e2]; unfold stdF
      rw [if_neg (by omega), if_neg (by omega), if_neg (by omega), if_neg (by omega), if_neg (by omega), if_neg (by omega), if_neg (by omega), if_neg (by omega)]
      exact e3 i j h1
    rw [st_0 49 (by omega) (by omega) (by omega) (by omega), q1]
    refine hk τ2 ⟨⟨by show (0 : Nat) ≤ 1600; omega, ?_, fun i hi => ?_, a4⟩, ⟨?_, ?_, fun i hi => ?_⟩, fun p hp i hi => ?_, ⟨q3, ?_, ?_⟩, ⟨st0_ok, ⟨fun i hi => ?_, ?_, fun j hj => absurd hj (by show ¬ j < 3 * 0; omega)⟩⟩, ⟨by show (0 : Nat) ≤ 20; omega, ?_, nw, u3, ?_, fun j s hj => absurd (show ([] : List St)[j]? = some s from hj) (by simp)⟩, ⟨?_, g2⟩, ⟨o1, ?_, fun i hi => ⟨?_, (o3 i hi).2⟩⟩, ⟨?_, ?_, ?_⟩⟩
    · rw [st_0 1 (by omega) (by omega) (by omega) (by omega)]; exact t1 r1
    · rw [st_i 1 i (by omega) (by omega) (by omega) (by omega) (by omega) (by omega) (by omega) (by omega), kp 1 i (by simp [scrT]) (by omega)]; exact a3 i hi
    · rw [e2]; unfold stdF
      rw [if_neg (by omega), if_neg (by omega), if_neg (by omega), if_neg (by omega), if_neg (by omega), if_neg (by omega), if_neg (by omega), if_neg (by omega), sI_ne (by omega), sI_same]
    · rw [e2]; unfold stdF
      rw [if_neg (by omega), if_neg (by omega), if_neg (by omega), if_neg (by omega), if_neg (by omega), if_neg (by omega), if_neg (by omega), if_neg (by omega), sI_same]
    · rw [st_i 10 i (by omega) (by omega) (by omega) (by omega) (by omega) (by omega) (by omega) (by omega), kp 10 i (by simp [scrT]) (by omega)]; exact b3 i hi
    · have : ∀ p, p ∈ wTab → p.1 ≠ 0 ∧ p.1 ≠ 92 ∧ p.1 ≠ 94 ∧ p.1 ≠ 40 ∧ p.1 ≠ 42 ∧ p.1 ≠ 43 ∧ p.1 ≠ 46 ∧ p.1 ≠ 47 ∧ p.1 ≠ 48 ∧ p.1 ≠ 53 ∧ p.1 ≠ 57 ∧ p.1 ≠ 60 ∧ p.1 ≠ 61 ∧ p.1 ≠ 62 ∧ p.1 ≠ 63 ∧ p.1 ≠ 64 ∧ p.1 ≠ 52 := by decide
      have := this p hp
      rw [st_i p.1 i (by omega) (by omega) (by omega) (by omega) (by omega) (by omega) (by omega) (by omega), kp p.1 i (by simp [scrT, this]) (by omega)]; exact c p hp i hi
    · refine q6.mv q3 hcdn (fun j hj => ?_) (fun j hj => ?_) (fun j hj => ?_) (fun j hj => ?_) (fun j hj => ⟨?_, ?_⟩) (fun j hj => ?_)
      · rw [e2]; unfold stdF
        rw [if_neg (by omega), if_neg (by omega), if_neg (by omega), if_neg (by omega), if_neg (by omega), if_neg (by omega), if_neg (by omega), if_pos ⟨rfl, by omega, by omega⟩, e3 40 _ (by omega), Nat.add_sub_cancel_left, Nat.zero_add]
      · rw [el2, if_pos ⟨rfl, by omega, by omega⟩, Nat.add_sub_cancel_left, Nat.zero_add]; rfl
      · rw [e2]; unfold stdF
        rw [if_neg (by omega), if_neg (by omega), if_neg (by omega), if_neg (by omega), if_neg (by omega), if_neg (by omega), if_pos ⟨rfl, by omega, by omega⟩, e3 42 _ (by omega), Nat.add_sub_cancel_left, Nat.zero_add]
      · rw [e2]; unfold stdF
        rw [if_neg (by omega), if_neg (by omega), if_neg (by omega), if_neg (by omega), if_neg (by omega), if_pos ⟨rfl, by omega, by omega⟩, e3 43 _ (by omega), Nat.add_sub_cancel_left, Nat.zero_add]
      · rw [e2]; unfold stdF
        rw [if_neg (by omega), if_neg (by omega), if_neg (by omega), if_pos ⟨Or.inl rfl, by omega, by omega⟩, e3 46 _ (by omega), Nat.add_sub_cancel_left, Nat.zero_add]
      · rw [e2]; unfold stdF
        rw [if_neg (by omega), if_neg (by omega), if_neg (by omega), if_pos ⟨Or.inr rfl, by omega, by omega⟩, e3 47 _ (by omega), Nat.add_sub_cancel_left, Nat.zero_add]
      · rw [e2]; unfold stdF
        rw [if_neg (by omega), if_neg (by omega), if_pos ⟨rfl, by omega, by omega⟩, e3 48 _ (by omega), Nat.add_sub_cancel_left, Nat.zero_add]
    · rw [e2]; unfold stdF
      rw [if_neg (by omega), if_neg (by omega), if_neg (by omega), if_neg (by omega), if_pos ⟨rfl, rfl⟩, e4 43 (by omega) (by omega)]; exact q2
    · rw [e2]; unfold stdF
      rw [if_neg (by omega), if_pos ⟨rfl, by omega⟩]; rfl
    · rw [e2]; unfold stdF
      rw [if_neg (by omega), if_pos ⟨rfl, by omega⟩]; rfl
    · rw [e2]; unfold stdF
      rw [if_pos ⟨rfl, rfl⟩]; rfl
    · rw [st_0 66 (by omega) (by omega) (by omega) (by omega), kp 0 66 (by simp [scrT]) (by omega)]; exact u4
    · rw [el2, if_neg (by omega)]
      show τ1.2.1 0 67 = _
      rw [kl 0 67 (by simp [scrTL])]; exact g1
    · rw [st_0 102 (by omega) (by omega) (by omega) (by omega), kp 0 102 (by simp [scrT]) (by omega)]; exact o2
    · rw [st_i 102 i (by omega) (by omega) (by omega) (by omega) (by omega) (by omega) (by omega) (by omega), kp 102 i (by simp [scrT]) (by omega)]; exact (o3 i hi).1
    · rw [st_0 53 (by omega) (by omega) (by omega) (by omega), kp 0 53 (by simp [scrT]) (by omega)]; exact f1
    · rw [st_0 57 (by omega) (by omega) (by omega) (by omega), kp 0 57 (by simp [scrT]) (by omega)]; exact f2
    · obtain ⟨c', hc', hc2⟩ := r6
      exact ⟨c', hc', by rw [st_0 92 (by omega) (by omega) (by omega) (by omega)]; exact hc2⟩
  · -- a fault
    obtain ⟨r1, r2, r3, r4, r5⟩ := g1
    obtain ⟨kp, kl⟩ := keep r1
    have hsp : sp_island a = (-1, aTp a, 0, nI kd, nI pl, fu_ (aRf a) 1 (aRf a 1 + 1), aI a, aS a, aU a, aSd a, aOu a, aOn a) := by unfold sp_island; rw [e1]
    rw [hsp] at hk
    have hm : RT (aTp a, 0, nI kd, nI pl, fu_ (aRf a) 1 (aRf a 1 + 1), aI a, aS a, aU a, aSd a, aOu a, aOn a) (sI (sI (sI (sI τ 0 1 0) 0 7 (nI kd)) 0 8 (nI pl)) 10 1 (τ.1 10 1 + 1)) := by
      have z0 : ∀ j, j ≠ 1 → j ≠ 7 → j ≠ 8 → (sI (sI (sI (sI τ 0 1 0) 0 7 (nI kd)) 0 8 (nI pl)) 10 1 (τ.1 10 1 + 1)).1 0 j = τ.1 0 j := fun j h1 h2 h3 => by rw [sI_neI (by omega), sI_ne (by omega), sI_ne (by omega), sI_ne (by omega)]
      have zi : ∀ i j, i ≠ 0 → i ≠ 10 → (sI (sI (sI (sI τ 0 1 0) 0 7 (nI kd)) 0 8 (nI pl)) 10 1 (τ.1 10 1 + 1)).1 i j = τ.1 i j := fun i j h1 h2 => by rw [sI_neI h2, sI_neI h1, sI_neI h1, sI_neI h1]
      refine ⟨⟨by show (0 : Nat) ≤ 1600; omega, ?_, fun i hi => ?_, a4⟩, ⟨?_, ?_, fun i hi => ?_⟩, fun p hp i hi => ?_, ⟨d1, ?_, ?_⟩, ⟨s1, s2.mv s1 (fun j hj => zi _ _ (by omega) (by omega))⟩, ⟨u1, ?_, nw, u3, ?_, fun j s hj => ⟨(u5 j s hj).1, (u5 j s hj).2.mv (u5 j s hj).1 (fun j hj => zi _ _ (by omega) (by omega))⟩⟩, ⟨g1, g2⟩, ⟨o1, ?_, fun i hi => ⟨?_, (o3 i hi).2⟩⟩, ⟨?_, ?_, ?_⟩⟩
      · rw [sI_neI (by omega), sI_ne (by omega), sI_ne (by omega), sI_same]; rfl
      · rw [zi 1 i (by omega) (by omega)]; exact a3 i hi
      · rw [sI_neI (by omega), sI_ne (by omega), sI_same]
      · rw [sI_neI (by omega), sI_same]
      · show _ = fu_ (aRf a) 1 (aRf a 1 + 1) i
        by_cases hi1 : i = 1
        · subst hi1; rw [sI_same, fu_same, b3 1 (by omega)]
        · rw [sI_ne (by omega), fu_ne hi1, sI_neI (by omega), sI_neI (by omega), sI_neI (by omega)]; exact b3 i hi
      · have : ∀ p, p ∈ wTab → p.1 ≠ 0 ∧ p.1 ≠ 10 := by decide
        have := this p hp
        rw [zi p.1 i this.1 this.2]; exact c p hp i hi
      · exact d2.congr (fun i j hi => zi i j (by omega) (by omega)) (fun j => rfl)
      · rw [z0 44 (by omega) (by omega) (by omega)]; exact d3
      · rw [z0 65 (by omega) (by omega) (by omega)]; exact u2
      · rw [z0 66 (by omega) (by omega) (by omega)]; exact u4
      · rw [z0 102 (by omega) (by omega) (by omega)]; exact o2
      · rw [zi 102 i (by omega) (by omega)]; exact (o3 i hi).1
      · rw [z0 53 (by omega) (by omega) (by omega)]; exact f1
      · rw [z0 57 (by omega) (by omega) (by omega)]; exact f2
      · obtain ⟨c', hc', hc2⟩ := f3
        exact ⟨c', hc', by rw [z0 92 (by omega) (by omega) (by omega)]; exact hc2⟩
    unfold T_island_111
    refine st_ (st_ (br_f (by rw [sI_ne (by omega), sI_ne (by omega)]; exact r3) ⟨vi_ (i := 1) (by omega) (by omega), vi_ (i := 1) (by omega) (by omega), st_ (hk _ (hm.fr ⟨fun i j hij => ?_, fun i j hij => kl i j hij, ?_⟩))⟩))
    · rw [show (Int32.toNatClampNeg 1) = 1 from rfl, r2, sI_ne (i := 0) (j := 7) (a := 0) (b := 6) (by omega), r4, sI_neI (i := 0) (a := 10) (by omega), sI_neI (i := 0) (a := 10) (by omega), kp 10 1 (by simp [scrT]) (by omega)]
      simp only [sI_1]
      by_cases w1 : i = 10 ∧ j = 1
      · rw [if_pos w1, if_pos w1]
      rw [if_neg w1, if_neg w1]
      by_cases w2 : i = 0 ∧ j = 8
      · rw [if_pos w2, if_pos w2]
      rw [if_neg w2, if_neg w2]
      by_cases w3 : i = 0 ∧ j = 7
      · rw [if_pos w3, if_pos w3]
      rw [if_neg w3, if_neg w3]
      by_cases w4 : i = 0 ∧ j = 1
      · rw [if_pos w4]; obtain ⟨rfl, rfl⟩ := w4; exact t1 r1
      · rw [if_neg w4]; exact kp i j hij w4
    · obtain ⟨c', hc', hc2⟩ := r5
      exact ⟨c', hc', by rw [sI_neI (by omega), sI_ne (by omega), sI_ne (by omega)]; exact hc2⟩
end TK
