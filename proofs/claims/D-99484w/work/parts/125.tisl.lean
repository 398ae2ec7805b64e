/-! PURE SIDE: cells that the whole's state doesn't rest on; the model reads an island. -/
def scrT (i j : Nat) : Prop := (i = 0 ∧ (j = 2 ∨ j = 3 ∨ j = 4 ∨ j = 5 ∨ j = 6 ∨ j = 38 ∨ j = 43 ∨ j = 48 ∨ j = 49 ∨ j = 50 ∨ j = 54 ∨ j = 55 ∨ j = 58 ∨ j = 92 ∨ j = 94 ∨ j = 95 ∨ j = 96 ∨ j = 98 ∨ j = 100)) ∨ i = 53 ∨ i = 57 ∨ i = 60 ∨ i = 61 ∨ i = 62 ∨ i = 63 ∨ i = 64 ∨ i = 92 ∨ i = 94 ∨ (i = 40 ∧ j < 3) ∨ (i = 42 ∧ j < 24) ∨ (i = 43 ∧ j < 8) ∨ (i = 46 ∧ j < 10) ∨ (i = 47 ∧ j < 10) ∨ (i = 48 ∧ j < 1600)
def scrTL (i j : Nat) : Prop := (i = 41 ∧ j < 24) ∨ i = 98 ∨ (i = 0 ∧ j = 99)
def FrT (τ τ' : Sto) : Prop := (∀ i j, ¬ scrT i j → τ'.1 i j = τ.1 i j) ∧ (∀ i j, ¬ scrTL i j → τ'.2.1 i j = τ.2.1 i j) ∧ ∃ c, c ≤ 1602 ∧ τ'.1 0 92 = nI c
theorem IslR.mv {τ τ' : Sto} {co no to mo fo off cd : Nat} {I : Isl} (hO : IslOK I) (h : IslR τ co no to mo fo off cd I) {co' no' to' mo' fo' off' cd' : Nat} (hcd : cd ≤ cd')
    (e1 : ∀ j, j < 3 → τ'.1 40 (co' + j) = τ.1 40 (co + j)) (e2 : ∀ j, j < 24 → τ'.2.1 41 (no' + j) = τ.2.1 41 (no + j)) (e3 : ∀ j, j < 24 → τ'.1 42 (to' + j) = τ.1 42 (to + j)) (e4 : ∀ j, j < 8 → τ'.1 43 (mo' + j) = τ.1 43 (mo + j)) (e5 : ∀ j, j < 10 → τ'.1 46 (fo' + j) = τ.1 46 (fo + j) ∧ τ'.1 47 (fo' + j) = τ.1 47 (fo + j)) (e6 : ∀ j, j < cd → τ'.1 48 (off' + j) = τ.1 48 (off + j)) : IslR τ' co' no' to' mo' fo' off' cd' I := by
  obtain ⟨h1, h2, h3, h4, h5, h6, h7⟩ := h
  obtain ⟨o1, -⟩ := hO
  have cod : ∀ w c, w < 10 → CodT τ fo off cd w c → CodT τ' fo' off' cd' w c := by
    rintro w c hw ⟨a, q1, q2, q3, q4⟩
    exact ⟨a, by omega, by rw [(e5 w hw).1]; exact q2, by rw [(e5 w hw).2]; exact q3, fun i hi => by rw [e6 _ (by omega)]; exact q4 i hi⟩
  refine ⟨fun kd hk => by rw [e1 kd hk]; exact h1 kd hk, fun kd j hk hj => ?_, fun j hj => by rw [e3 j (by omega)]; exact h3 j hj, fun j hj => by rw [e4 j (by omega)]; exact h4 j hj, fun w hw h8 h9 => by rw [(e5 w (by omega)).1]; exact h5 w hw h8 h9, fun w t hw ht => ?_, fun w v hw hv => ?_⟩
  · have : iC I kd ≤ 8 := by
      have : kd = 0 ∨ kd = 1 ∨ kd = 2 := by omega
      rcases this with rfl | rfl | rfl <;> omega
    rw [e2 _ (by omega)]; exact h2 kd j hk hj
  · obtain ⟨c, q1, q2⟩ := h6 w t hw ht
    exact ⟨c, cod w c (by omega) q1, q2⟩
  · obtain ⟨c, q1, q2⟩ := h7 w v hw hv
    exact ⟨c, cod w c (by omega) q1, q2⟩
theorem StR.mv {τ τ' : Sto} {id off : Nat} {s : St} (hO : StOK s) (h : StR τ id off s) {id' off' : Nat} (e : ∀ j, j < 192 → τ'.1 id' (off' + j) = τ.1 id (off + j)) : StR τ' id' off' s := by
  obtain ⟨h1, h2, h3⟩ := h
  obtain ⟨-, -, o3⟩ := hO
  refine ⟨fun i hi => by rw [e i (by omega)]; exact h1 i hi, by rw [e 41 (by omega)]; exact h2, fun j hj => ?_⟩
  rw [show off' + 42 + j = off' + (42 + j) by omega, e (42 + j) (by omega), show off + (42 + j) = off + 42 + j by omega]
  exact h3 j hj
theorem RT.fr {a : AS} {τ τ' : Sto} (h : RT a τ) (f : FrT τ τ') : RT a τ' := by
  obtain ⟨⟨a1, a2, a3, a4⟩, ⟨b1, b2, b3⟩, c, ⟨d1, d2, d3⟩, ⟨s1, s2⟩, ⟨u1, u2, nw, u3, u4, u5⟩, ⟨g1, g2⟩, ⟨o1, o2, o3⟩, ⟨f1, f2, -⟩⟩ := h
  obtain ⟨e, el, ec⟩ := f
  refine ⟨⟨a1, by rw [e 0 1 (by simp [scrT])]; exact a2, fun i hi => by rw [e 1 i (by simp [scrT])]; exact a3 i hi, a4⟩, ⟨by rw [e 0 7 (by simp [scrT])]; exact b1, by rw [e 0 8 (by simp [scrT])]; exact b2, fun i hi => by rw [e 10 i (by simp [scrT])]; exact b3 i hi⟩, fun p hp i hi => ?_, ⟨d1, ?_, by rw [e 0 44 (by simp [scrT])]; exact d3⟩, ⟨s1, s2.mv s1 (fun j hj => e 52 _ (by simp [scrT]))⟩, ⟨u1, by rw [e 0 65 (by simp [scrT])]; exact u2, nw, u3, by rw [e 0 66 (by simp [scrT])]; exact u4, fun j s hj => ⟨(u5 j s hj).1, (u5 j s hj).2.mv (u5 j s hj).1 (fun j hj => e 65 _ (by simp [scrT]))⟩⟩, ⟨by rw [el 0 67 (by simp [scrTL])]; exact g1, g2⟩, ⟨o1, by rw [e 0 102 (by simp [scrT])]; exact o2, fun i hi => ⟨by rw [e 102 i (by simp [scrT])]; exact (o3 i hi).1, (o3 i hi).2⟩⟩, ⟨by rw [e 0 53 (by simp [scrT])]; exact f1, by rw [e 0 57 (by simp [scrT])]; exact f2, ec⟩⟩
  · rw [e p.1 i]
    · exact c p hp i hi
    · have : ∀ p, p ∈ wTab → p.1 ≠ 0 ∧ p.1 ≠ 92 ∧ p.1 ≠ 94 ∧ p.1 ≠ 40 ∧ p.1 ≠ 42 ∧ p.1 ≠ 43 ∧ p.1 ≠ 46 ∧ p.1 ≠ 47 ∧ p.1 ≠ 48 ∧ p.1 ≠ 53 ∧ p.1 ≠ 57 ∧ p.1 ≠ 60 ∧ p.1 ≠ 61 ∧ p.1 ≠ 62 ∧ p.1 ≠ 63 ∧ p.1 ≠ 64 := by decide
      have := this p hp
      simp [scrT, this]
  · refine d2.mv d1 (Nat.le_refl _) (fun j hj => e _ _ (by simp [scrT])) (fun j hj => el _ _ (by simp [scrTL])) (fun j hj => e _ _ (by simp [scrT])) (fun j hj => e _ _ (by simp [scrT])) (fun j hj => ⟨e _ _ (by simp [scrT]), e _ _ (by simp [scrT])⟩) (fun j hj => e _ _ (by simp [scrT]))
section TJ
variable {a : AS} {τb τ τ' : Sto} {B : Byt} {n k st : Nat} {I : Isl} {K : Int32 → Sto → Prop}
def iniF (τ : Sto) (i j : Nat) : Int32 := if i = 0 then (if j = 3 then τ.1 0 1 else if j = 1 ∨ j = 2 ∨ j = 5 ∨ j = 49 ∨ j = 48 ∨ j = 43 then 0 else if j = 4 ∨ j = 6 then -1 else τ.1 0 j) else if i = 40 ∧ j < 3 then 0 else if i = 46 ∧ j < 10 then -1 else τ.1 i j
theorem isl_ini (hk : ∀ τ', (∀ i j, τ'.1 i j = iniF τ i j) → τ'.2.1 = τ.2.1 → ∃ m, T_island_89 K m τ') : T_island τ K := by
  refine st_ (st_ (st_ (st_ (st_ (st_ (st_ (st_ ⟨4, ?_⟩)))))))
  have h0 : ∀ i j, (sI (sI (sI (sI (sI (sI (sI (sI τ 0 3 (τ.1 0 1)) 0 1 0) 0 2 0) 0 4 (-1)) 0 5 0) 0 6 (-1)) 0 49 0) 0 48 0).1 i j = if i = 0 then (if j = 3 then τ.1 0 1 else if j = 1 ∨ j = 2 ∨ j = 5 ∨ j = 49 ∨ j = 48 then 0 else if j = 4 ∨ j = 6 then -1 else τ.1 0 j) else τ.1 i j := by
    intro i j
    simp only [sI_1]
    by_cases hi : i = 0
    · subst hi
      simp only [true_and, if_true]
      by_cases h3 : j = 3
      · subst h3; simp
      · by_cases h1 : j = 1 ∨ j = 2 ∨ j = 5 ∨ j = 49 ∨ j = 48
        · rcases h1 with rfl | rfl | rfl | rfl | rfl <;> simp
        · by_cases h4 : j = 4 ∨ j = 6
          · rcases h4 with rfl | rfl <;> simp
          · rw [if_neg (by omega), if_neg (by omega), if_neg (by omega), if_neg (by omega), if_neg (by omega), if_neg (by omega), if_neg (by omega), if_neg (by omega), if_neg h3, if_neg h1, if_neg h4]
    · simp [hi]
  have h0l : (sI (sI (sI (sI (sI (sI (sI (sI τ 0 3 (τ.1 0 1)) 0 1 0) 0 2 0) 0 4 (-1)) 0 5 0) 0 6 (-1)) 0 49 0) 0 48 0).2.1 = τ.2.1 := rfl
  generalize (sI (sI (sI (sI (sI (sI (sI (sI τ 0 3 (τ.1 0 1)) 0 1 0) 0 2 0) 0 4 (-1)) 0 5 0) 0 6 (-1)) 0 49 0) 0 48 0) = τ1 at h0 h0l ⊢
  have lp2 : ∀ (d f x : Nat) (τ' : Sto), 10 - x = d → d < f → x ≤ 10 → (∀ i j, τ'.1 i j = if i = 40 ∧ j < 3 then 0 else if i = 46 ∧ j < x then -1 else τ1.1 i j) → τ'.2.1 = τ.2.1 → T_island_65 K f (nI x) τ' := by
    intro d
    induction d with
    | zero =>
      intro f x τ' hd hf hx h1 h2
      obtain ⟨f, rfl⟩ : ∃ f', f = f' + 1 := ⟨f - 1, by omega⟩
      obtain rfl : x = 10 := by omega
      unfold T_island_65
      refine br_t (by decide) (st_ (hk _ (fun i j => ?_) h2))
      unfold iniF
      rw [sI_1, h1, h0]
      by_cases hi : i = 0
      · subst hi
        simp only [true_and, if_true]
        by_cases h43 : j = 43
        · subst h43; simp
        · rw [if_neg h43]
          by_cases h3 : j = 3
          · subst h3; simp
          · rw [if_neg (by omega), if_neg (by omega), if_neg h3, if_neg h3]
            by_cases hz : j = 1 ∨ j = 2 ∨ j = 5 ∨ j = 49 ∨ j = 48
            · rw [if_pos hz, if_pos (by omega)]
            · rw [if_neg hz, if_neg (show ¬ (j = 1 ∨ j = 2 ∨ j = 5 ∨ j = 49 ∨ j = 48 ∨ j = 43) by omega)]
      · rw [if_neg (by omega), if_neg hi, if_neg hi]
    | succ d ih =>
      intro f x τ' hd hf hx h1 h2
      obtain ⟨f, rfl⟩ : ∃ f', f = f' + 1 := ⟨f - 1, by omega⟩
      unfold T_island_65
      refine br_f (show ¬ nI 10 ≤ nI x from nI_ge (by omega) (by omega)) ⟨vi_ (by omega) (by omega), st_ ?_⟩
      rw [nI_clamp (by omega), nI_1]
      refine ih f (x + 1) _ (by omega) (by omega) (by omega) (fun i j => ?_) h2
      rw [sI_1, h1]
      by_cases e : i = 46 ∧ j = x
      · rw [if_pos e, if_neg (by omega), if_pos ⟨e.1, by omega⟩]
      · rw [if_neg e]
        by_cases e1 : i = 40 ∧ j < 3
        · rw [if_pos e1, if_pos e1]
        · rw [if_neg e1, if_neg e1]
          by_cases e2 : i = 46 ∧ j < x
          · rw [if_pos e2, if_pos ⟨e2.1, by omega⟩]
          · rw [if_neg e2, if_neg (by omega)]
  have lp : ∀ (d f x : Nat) (τ' : Sto), 3 - x = d → d < f → x ≤ 3 → (∀ i j, τ'.1 i j = if i = 40 ∧ j < x then 0 else τ1.1 i j) → τ'.2.1 = τ.2.1 → T_island_45 K f (nI x) τ' := by
    intro d
    induction d with
    | zero =>
      intro f x τ' hd hf hx h1 h2
      obtain ⟨f, rfl⟩ : ∃ f', f = f' + 1 := ⟨f - 1, by omega⟩
      obtain rfl : x = 3 := by omega
      unfold T_island_45
      exact br_t (by decide) ⟨11, lp2 10 _ 0 τ' rfl (by omega) (by omega) (fun i j => by rw [h1, if_neg (show ¬ (i = 46 ∧ j < 0) by omega)]) h2⟩
    | succ d ih =>
      intro f x τ' hd hf hx h1 h2
      obtain ⟨f, rfl⟩ : ∃ f', f = f' + 1 := ⟨f - 1, by omega⟩
      unfold T_island_45
      refine br_f (show ¬ nI 3 ≤ nI x from nI_ge (by omega) (by omega)) ⟨vi_ (by omega) (by omega), st_ ?_⟩
      rw [nI_clamp (by omega), nI_1]
      refine ih f (x + 1) _ (by omega) (by omega) (by omega) (fun i j => ?_) h2
      rw [sI_1, h1]
      by_cases e : i = 40 ∧ j = x
      · rw [if_pos e, if_pos ⟨e.1, by omega⟩]
      · rw [if_neg e]
        by_cases e2 : i = 40 ∧ j < x
        · rw [if_pos e2, if_pos ⟨e2.1, by omega⟩]
        · rw [if_neg e2, if_neg (by omega)]
  exact lp 3 _ 0 τ1 rfl (by omega) (by omega) (fun i j => by rw [if_neg (by omega)]) h0l
/-- all statements -/
theorem isl_89 (hT : TxT τb B n) : ∀ (fu f k : Nat) (I : Isl) (st : Nat) (τ : Sto), n - k < fu → n - k < f → RI τb B n τ k I st → st ≤ 80 →
    (∀ I' st', pIsl B n fu I st k = .inr (I', st') → ∀ k' τ', RI τb B n τ' k' I' st' → T_island_111 K τ') → (∀ kd pl, pIsl B n fu I st k = .inl (kd, pl) → ∀ τ', RFI τb τ' kd pl → T_island_111 K τ') → T_island_89 K f τ := by
  intro fu
  induction fu with
  | zero => intro f k I st τ h; omega
  | succ fu ih =>
    intro f k I st τ hfu hf hI hst hok her
    obtain ⟨f, rfl⟩ : ∃ f', f = f' + 1 := ⟨f - 1, by omega⟩
    obtain ⟨C, W, o, bs, g, hC⟩ := hI.1.toQ
    have hTs := hT.fr hI.1.1
    have hsk := skp_ge B n k
    unfold T_island_89
    refine bn_f g.bad (T_look_law hTs g fun τ1 g1 => ?_)
    have hI1 := hI.ofQ g1 hsk hC
    rw [cI_n1 (bt_le hTs.2.2.2.1)]
    by_cases e : bt B n (skp B n k) = 256
    · refine br_t e (hok I st ?_ _ τ1 hI1)
      show (if _ then _ else _) = _
      rw [if_pos e]
    · have hin : skp B n k < n := bt_in (c := bt B n (skp B n k)) rfl e
      have hun : pIsl B n (fu + 1) I st k = if st = 80 then .inl (5, skp B n k) else rsB (pStm B n I k) (fun s => pIsl B n fu s.1 (st + 1) s.2) := by
        show (if _ then _ else _) = _
        rw [if_neg e]
      have hps : pStm B n I (skp B n k) = pStm B n I k := by
        unfold pStm pWord; rw [skp_idem]
      refine br_f e (T_statementTold_law hT hI1 (skp_idem B n k) hst (fun hs I' k' e1 hlt τ2 hI2 => ?_) (fun hs kd pl e1 τ2 g2 => ?_) (fun hs τ2 g2 => ?_))
      · rw [hps] at e1
        rw [if_neg hs, e1] at hun
        have hk'n := hI2.1.2.1
        exact ih f k' I' (st + 1) τ2 (by omega) (by omega) hI2 (by omega) (fun I'' st'' e2 => hok I'' st'' (by rw [hun]; exact e2)) (fun kd pl e2 => her kd pl (by rw [hun]; exact e2))
      · rw [hps] at e1
        rw [if_neg hs, e1] at hun
        have hk := her kd pl hun τ2 g2
        obtain ⟨f, rfl⟩ : ∃ f', f = f' + 1 := ⟨f - 1, by omega⟩
        unfold T_island_89
        exact bn_t g2.2.2.1 hk
      · rw [if_pos hs] at hun
        have hk := her 5 _ hun τ2 g2
        obtain ⟨f, rfl⟩ : ∃ f', f = f' + 1 := ⟨f - 1, by omega⟩
        unfold T_island_89
        exact bn_t g2.2.2.1 hk
end TJ
