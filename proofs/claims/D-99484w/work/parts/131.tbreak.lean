/-! PURE SIDE: breaking and mending; the model does it so. -/
def spKeep (s : St) (t what : Nat) : St :=
  if s.2.1 = 50 then (s.1, 50, fun j => if j < 147 then s.2.2 (j + 3) else if j = 147 then s.1 0 else if j = 148 then t else what)
  else (s.1, s.2.1 + 1, fun j => if j = 3 * s.2.1 then s.1 0 else if j = 3 * s.2.1 + 1 then t else if j = 3 * s.2.1 + 2 then what else s.2.2 j)
def brS (s : Nat → Nat) (t : Nat) : Nat → Nat := fu_ (fu_ (fu_ s (1 + 5 * t) 1) (2 + 5 * t) (min 99 (s (2 + 5 * t) + 1))) (5 + 5 * t) 0
def meS (s : Nat → Nat) (t fine : Nat) : Nat → Nat := fu_ (fu_ (fu_ s (1 + 5 * t) 2) (3 + 5 * t) (min 99 (s (3 + 5 * t) + 1))) (4 + 5 * t) fine
def spBreak (s : St) (t : Nat) : St := spKeep (brS s.1 t, s.2) t 0
def spMend (I : Isl) (fr : Int32 × Int32) (s : St) (t m : Nat) : St := spKeep (meS s.1 t (spFine I fr s.1 t m), s.2) t (m + 1)
def bdS (s : Nat → Nat) : Prop := s 0 ≤ 99999 ∧ (∀ i, 0 < i → i < 41 → s i ≤ 99) ∧ ∀ t, t < 8 → s (5 + 5 * t) ≤ 1
def DC (I : Isl) (fr : Int32 × Int32) (th : Bool) (s : St) (τ : Sto) : Prop := EvC I fr s.1 τ ∧ τ.1 0 57 = b1 th ∧ s.2.1 ≤ 50 ∧ (th = false → τ.1 52 41 = nI s.2.1 ∧ ∀ j, j < 3 * s.2.1 → τ.1 52 (42 + j) = nI (s.2.2 j))
def FrK (th : Bool) (τ τ' : Sto) : Prop := (∀ i j, ¬ (i = 0 ∧ (j = 50 ∨ j = 55 ∨ j = 98 ∨ j = 58)) → ¬ (i = 52 ∧ (j < 41 ∨ th = false)) → τ'.1 i j = τ.1 i j) ∧ ∀ i j, i ≠ 98 → τ'.2.1 i j = τ.2.1 i j
theorem FrK.refl (th : Bool) (τ : Sto) : FrK th τ τ := ⟨fun _ _ _ _ => rfl, fun _ _ _ => rfl⟩
theorem FrK.trans {th : Bool} {τ τ' τ'' : Sto} (h : FrK th τ τ') (h' : FrK th τ' τ'') : FrK th τ τ'' := ⟨fun i j h1 h2 => by rw [h'.1 i j h1 h2, h.1 i j h1 h2], fun i j h1 => by rw [h'.2 i j h1, h.2 i j h1]⟩
theorem FrK.ofE {th : Bool} {τ τ' : Sto} (h : FrE τ τ') : FrK th τ τ' := ⟨fun i j h1 _ => h.1 i j (by omega), h.2⟩
theorem FrK.w {th : Bool} {τ τ' : Sto} (h : FrK th τ τ') {j : Nat} {v : Int32} (hj : j < 41 ∨ th = false) : FrK th τ (sI τ' 52 j v) := ⟨fun a b h1 h2 => by rw [sI_ne (by rintro ⟨rfl, rfl⟩; exact h2 ⟨rfl, hj⟩)]; exact h.1 a b h1 h2, h.2⟩
theorem FrK.w58 {th : Bool} {τ τ' : Sto} (h : FrK th τ τ') {v : Int32} : FrK th τ (sI τ' 0 58 v) := ⟨fun a b h1 h2 => by rw [sI_ne (by omega)]; exact h.1 a b h1 h2, h.2⟩
section TB
variable {I : Isl} {fr : Int32 × Int32} {th : Bool} {s : St} {τ τ' : Sto} {t w m : Nat}
theorem EvC.mv {s s' : Nat → Nat} (h : EvC I fr s τ) (e : ∀ i j, i = 40 ∨ i = 42 ∨ i = 43 ∨ i = 46 ∨ i = 47 ∨ i = 48 → τ'.1 i j = τ.1 i j) (e2 : ∀ j, τ'.2.1 41 j = τ.2.1 41 j) (e53 : τ'.1 0 53 = τ.1 0 53) (e54 : τ'.1 0 54 = τ.1 0 54) (hs : ∀ i, i < 41 → τ'.1 52 i = nI (s' i)) (hb : bdS s') : EvC I fr s' τ' := by
  obtain ⟨h1, h2, h3, h4, h5, h6⟩ := h
  exact ⟨h1, h2.congr e e2, hs, hb, by rw [e53]; exact h5, fun hne => ⟨by rw [e54]; exact (h6 hne).1, (h6 hne).2⟩⟩
theorem FrK.ev {s s' : Nat → Nat} (f : FrK th τ τ') (h : EvC I fr s τ) (hs : ∀ i, i < 41 → τ'.1 52 i = nI (s' i)) (hb : bdS s') : EvC I fr s' τ' := h.mv (fun i j hi => f.1 i j (by omega) (by omega)) (fun j => f.2 41 j (by omega)) (f.1 0 53 (by omega) (by omega)) (f.1 0 54 (by omega) (by omega)) hs hb
theorem kept_64 {K : Sto → Prop} {s' : Nat → Nat} {kp : Nat} (hs0 : τ.1 52 0 = nI (s' 0)) (h41 : τ.1 52 41 = nI kp) (h1 : 1 ≤ kp) (h2 : kp ≤ 50) {what : Nat} (hk : K (sI (sI (sI τ 52 (39 + 3 * kp) (nI (s' 0))) 52 (39 + 3 * kp + 1) (nI t)) 52 (39 + 3 * kp + 2) (nI what))) : T_isKept_64 K (nI t) (nI what) τ := by
  unfold T_isKept_64
  rw [show τ.1 52 (Int32.toNatClampNeg 41) = nI kp from h41, show τ.1 52 (Int32.toNatClampNeg 0) = nI (s' 0) from hs0]
  have ey : (42 : Int32) + 3 * nI kp - 3 = nI (39 + 3 * kp) := by
    show nI 42 + nI 3 * nI kp - nI 3 = _
    rw [nI_mul, nI_add, nI_sub (by omega)]
    congr 1; omega
  refine ⟨vi_ (i := 41) (by omega) (by omega), st_ ?_⟩
  rw [ey, show nI (39 + 3 * kp) + 1 = nI (39 + 3 * kp + 1) from nI_add _ 1, show nI (39 + 3 * kp) + 2 = nI (39 + 3 * kp + 2) from nI_add _ 2, nI_clamp (by omega), nI_clamp (by omega), nI_clamp (by omega)]
  exact ⟨vi_ (i := 0) (by omega) (by omega), vi_ (by omega) (by omega), st_ ⟨vi_ (by omega) (by omega), st_ ⟨vi_ (by omega) (by omega), st_ hk⟩⟩⟩
theorem T_isKept_law {K : Sto → Prop} {what : Nat} {x2 : Int32} (e2 : x2 = nI what) (h : DC I fr th s τ) (hk : ∀ τ', DC I fr th (spKeep s t what) τ' → FrK th τ τ' → τ'.1 0 58 = τ.1 0 58 → K τ') : T_isKept τ (nI t) x2 K := by
  subst e2
  obtain ⟨hE, h57, hkp, hrow⟩ := h
  have e1 : (spKeep s t what).1 = s.1 := by unfold spKeep; split <;> rfl
  have hle : (spKeep s t what).2.1 ≤ 50 := by
    unfold spKeep
    split
    · exact Nat.le_refl _
    · show s.2.1 + 1 ≤ 50; omega
  cases th with
  | true => exact br_f (by rw [h57]; decide) (hk τ ⟨by rw [e1]; exact hE, h57, hle, fun z => by cases z⟩ (FrK.refl _ τ) rfl)
  | false =>
    obtain ⟨r1, r2⟩ := hrow rfl
    refine br_t (by rw [h57]; rfl) ⟨vi_ (i := 41) (by omega) (by omega), ?_⟩
    rw [show τ.1 52 (Int32.toNatClampNeg 41) = nI s.2.1 from r1]
    by_cases h50 : s.2.1 = 50
    · refine bn_f (by rw [h50]; rfl) ⟨148, ?_⟩
      -- the rows move down
      have lp : ∀ (d f x : Nat) (τ' : Sto), 189 - x = d → d < f → 42 ≤ x → x ≤ 189 → (∀ i j, τ'.1 i j = if i = 52 ∧ 42 ≤ j ∧ j < x then τ.1 52 (j + 3) else τ.1 i j) → τ'.2.1 = τ.2.1 → T_isKept_23 K (nI t) (nI what) f (nI x) τ' := by
        intro d
        induction d with
        | zero =>
          intro f x τ' hd hf hx1 hx2 h1 h2
          obtain ⟨f, rfl⟩ : ∃ f', f = f' + 1 := ⟨f - 1, by omega⟩
          obtain rfl : x = 189 := by omega
          unfold T_isKept_23
          refine br_t (by decide) (kept_64 (s' := s.1) (kp := 50) (by rw [h1, if_neg (by omega)]; exact hE.st_ (by omega)) (by rw [h1, if_neg (by omega), r1, h50]) (by omega) (by omega) (hk _ ?_ ?_ ?_))
          · have es : spKeep s t what = (s.1, 50, fun j => if j < 147 then s.2.2 (j + 3) else if j = 147 then s.1 0 else if j = 148 then t else what) := by unfold spKeep; rw [if_pos h50]
            rw [es]
            refine ⟨?_, ?_, Nat.le_refl _, fun _ => ⟨?_, fun j hj => ?_⟩⟩
            · refine hE.mv (fun i j hi => ?_) (fun j => ?_) ?_ ?_ (fun i hi => ?_) hE.2.2.2.1
              · rw [sI_neI (by omega), sI_neI (by omega), sI_neI (by omega), h1, if_neg (by omega)]
              · show τ'.2.1 41 j = _; rw [h2]
              · rw [sI_neI (by omega), sI_neI (by omega), sI_neI (by omega), h1, if_neg (by omega)]
              · rw [sI_neI (by omega), sI_neI (by omega), sI_neI (by omega), h1, if_neg (by omega)]
              · rw [sI_ne (by omega), sI_ne (by omega), sI_ne (by omega), h1, if_neg (by omega)]; exact hE.st_ hi
            · rw [sI_neI (by omega), sI_neI (by omega), sI_neI (by omega), h1, if_neg (by omega)]; exact h57
            · rw [sI_ne (by omega), sI_ne (by omega), sI_ne (by omega), h1, if_neg (by omega), r1, h50]
            · have hj : j < 3 * 50 := hj
              show _ = nI (if j < 147 then s.2.2 (j + 3) else if j = 147 then s.1 0 else if j = 148 then t else what)
              by_cases j1 : j < 147
              · rw [if_pos j1, sI_ne (by omega), sI_ne (by omega), sI_ne (by omega), h1, if_pos (by omega), show 42 + j + 3 = 42 + (j + 3) by omega]
                exact r2 (j + 3) (by omega)
              · rw [if_neg j1]
                by_cases j2 : j = 147
                · subst j2; rw [if_pos rfl, sI_ne (by omega), sI_ne (by omega)]; exact sI_same ..
                · rw [if_neg j2]
                  by_cases j3 : j = 148
                  · subst j3; rw [if_pos rfl, sI_ne (by omega)]; exact sI_same ..
                  · obtain rfl : j = 149 := by omega
                    rw [if_neg j3]; exact sI_same ..
          · refine ((FrK.w (τ' := τ') ⟨fun i j _ q2 => ?_, fun i j _ => by rw [h2]⟩ (Or.inr rfl)).w (Or.inr rfl)).w (Or.inr rfl)
            rw [h1, if_neg (fun z => q2 ⟨z.1, Or.inr rfl⟩)]
          · rw [sI_neI (by omega), sI_neI (by omega), sI_neI (by omega), h1, if_neg (by omega)]
        | succ d ih =>
          intro f x τ' hd hf hx1 hx2 h1 h2
          obtain ⟨f, rfl⟩ : ∃ f', f = f' + 1 := ⟨f - 1, by omega⟩
          unfold T_isKept_23
          rw [show nI x + 3 = nI (x + 3) from nI_add x 3, nI_clamp (by omega), nI_clamp (by omega), nI_1]
          refine br_f (show ¬ nI 189 ≤ nI x from nI_ge (by omega) (by omega)) ⟨vi_ (by omega) (by omega), vi_ (by omega) (by omega), st_ (ih f (x + 1) _ (by omega) (by omega) (by omega) (by omega) (fun i j => ?_) h2)⟩
          rw [sI_1]
          by_cases e : i = 52 ∧ j = x
          · obtain ⟨rfl, rfl⟩ := e
            rw [if_pos ⟨rfl, rfl⟩, if_pos ⟨rfl, by omega, by omega⟩, h1, if_neg (by omega)]
          · rw [if_neg e, h1]
            by_cases e2 : i = 52 ∧ 42 ≤ j ∧ j < x
            · rw [if_pos e2, if_pos ⟨e2.1, e2.2.1, by omega⟩]
            · rw [if_neg e2, if_neg (by omega)]
      exact lp 147 148 42 τ rfl (by omega) (by omega) (by omega) (fun i j => by rw [if_neg (by omega)]) rfl
    · refine bn_t (fun z => h50 ((nI_eq (b := 50) (by omega) (by omega)).mp z)) ⟨vi_ (i := 41) (by omega) (by omega), vi_ (i := 41) (by omega) (by omega), st_ ?_⟩
      rw [nI_1, show Int32.toNatClampNeg 41 = 41 from rfl]
      refine kept_64 (s' := s.1) (kp := s.2.1 + 1) (by rw [sI_ne (by omega)]; exact hE.st_ (by omega)) (sI_same ..) (by omega) (by omega) (hk _ ?_ ?_ ?_)
      · have es : spKeep s t what = (s.1, s.2.1 + 1, fun j => if j = 3 * s.2.1 then s.1 0 else if j = 3 * s.2.1 + 1 then t else if j = 3 * s.2.1 + 2 then what else s.2.2 j) := by unfold spKeep; rw [if_neg h50]
        rw [es]
        refine ⟨?_, ?_, by show s.2.1 + 1 ≤ 50; omega, fun _ => ⟨?_, fun j hj => ?_⟩⟩
        · refine hE.mv (fun i j hi => ?_) (fun j => rfl) ?_ ?_ (fun i hi => ?_) hE.2.2.2.1
          · rw [sI_neI (by omega), sI_neI (by omega), sI_neI (by omega), sI_neI (by omega)]
          · rw [sI_neI (by omega), sI_neI (by omega), sI_neI (by omega), sI_neI (by omega)]
          · rw [sI_neI (by omega), sI_neI (by omega), sI_neI (by omega), sI_neI (by omega)]
          · rw [sI_ne (by omega), sI_ne (by omega), sI_ne (by omega), sI_ne (by omega)]; exact hE.st_ hi
        · rw [sI_neI (by omega), sI_neI (by omega), sI_neI (by omega), sI_neI (by omega)]; exact h57
        · rw [sI_ne (by omega), sI_ne (by omega), sI_ne (by omega), sI_same]
        · have hj : j < 3 * (s.2.1 + 1) := hj
          show _ = nI (if j = 3 * s.2.1 then s.1 0 else if j = 3 * s.2.1 + 1 then t else if j = 3 * s.2.1 + 2 then what else s.2.2 j)
          by_cases j1 : j = 3 * s.2.1
          · rw [if_pos j1, sI_ne (by omega), sI_ne (by omega), show 42 + j = 39 + 3 * (s.2.1 + 1) by omega, sI_same]
          · rw [if_neg j1]
            by_cases j2 : j = 3 * s.2.1 + 1
            · rw [if_pos j2, sI_ne (by omega), show 42 + j = 39 + 3 * (s.2.1 + 1) + 1 by omega, sI_same]
            · rw [if_neg j2]
              by_cases j3 : j = 3 * s.2.1 + 2
              · rw [if_pos j3, show 42 + j = 39 + 3 * (s.2.1 + 1) + 2 by omega, sI_same]
              · rw [if_neg j3, sI_ne (by omega), sI_ne (by omega), sI_ne (by omega), sI_ne (by omega)]
                exact r2 j (by omega)
      · exact ((((FrK.refl _ τ).w (Or.inr rfl)).w (Or.inr rfl)).w (Or.inr rfl)).w (Or.inr rfl)
      · rw [sI_neI (by omega), sI_neI (by omega), sI_neI (by omega), sI_neI (by omega)]
theorem brS_bd {s : Nat → Nat} (h : bdS s) (ht : t < 8) : bdS (brS s t) := by
  obtain ⟨h1, h2, h3⟩ := h
  unfold brS
  refine ⟨?_, fun i hi0 hi => ?_, fun u hu => ?_⟩
  · rw [fu_ne (by omega), fu_ne (by omega), fu_ne (by omega)]; exact h1
  · by_cases a : i = 5 + 5 * t
    · subst a; rw [fu_same]; omega
    · rw [fu_ne a]
      by_cases b : i = 2 + 5 * t
      · subst b; rw [fu_same]; omega
      · rw [fu_ne b]
        by_cases c : i = 1 + 5 * t
        · subst c; rw [fu_same]; omega
        · rw [fu_ne c]; exact h2 i hi0 hi
  · by_cases a : 5 + 5 * u = 5 + 5 * t
    · rw [a, fu_same]; omega
    · rw [fu_ne a, fu_ne (by omega), fu_ne (by omega)]; exact h3 u hu
theorem meS_bd {s : Nat → Nat} {fine : Nat} (h : bdS s) (ht : t < 8) (hf : fine ≤ 99) : bdS (meS s t fine) := by
  obtain ⟨h1, h2, h3⟩ := h
  unfold meS
  refine ⟨?_, fun i hi0 hi => ?_, fun u hu => ?_⟩
  · rw [fu_ne (by omega), fu_ne (by omega), fu_ne (by omega)]; exact h1
  · by_cases a : i = 4 + 5 * t
    · subst a; rw [fu_same]; omega
    · rw [fu_ne a]
      by_cases b : i = 3 + 5 * t
      · subst b; rw [fu_same]; omega
      · rw [fu_ne b]
        by_cases c : i = 1 + 5 * t
        · subst c; rw [fu_same]; omega
        · rw [fu_ne c]; exact h2 i hi0 hi
  · rw [fu_ne (by omega), fu_ne (by omega), fu_ne (by omega)]; exact h3 u hu
/-- other numbers, rows as they were -/
theorem DC.num {s' : Nat → Nat} (h : DC I fr th s τ) (f : FrK true τ τ') (hs : ∀ i, i < 41 → τ'.1 52 i = nI (s' i)) (hb : bdS s') : DC I fr th (s', s.2) τ' := by
  obtain ⟨hE, h57, hkp, hrow⟩ := h
  refine ⟨f.ev hE hs hb, by rw [f.1 0 57 (by omega) (by omega)]; exact h57, hkp, fun hth => ⟨?_, fun j hj => ?_⟩⟩
  · rw [f.1 52 41 (by omega) (by simp)]; exact (hrow hth).1
  · rw [f.1 52 (42 + j) (by omega) (by simp; omega)]; exact (hrow hth).2 j hj
theorem FrK.up {th : Bool} (f : FrK true τ τ') : FrK th τ τ' := ⟨fun i j h1 h2 => f.1 i j h1 (fun z => h2 ⟨z.1, Or.inl (by have := z.2; simp at this; exact this)⟩), f.2⟩
theorem T_isBreaking_law {K : Sto → Prop} (h : DC I fr th s τ) (ht : t < 8) (hk : ∀ τ', DC I fr th (spBreak s t) τ' → FrK th τ τ' → τ'.1 0 58 = τ.1 0 58 + 1 → K τ') : T_isBreaking τ (nI t) K := by
  have hE := h.1
  have hb := hE.2.2.2.1
  have hb2 := hb.2.1 (2 + 5 * t) (by omega) (by omega)
  unfold T_isBreaking
  rw [show (1 : Int32) + 5 * nI t = nI (1 + 5 * t) from i5 t 1, show (2 : Int32) + 5 * nI t = nI (2 + 5 * t) from i5 t 2, nI_clamp (by omega), nI_clamp (by omega)]
  refine ⟨vi_ (by omega) (by omega), st_ ⟨vi_ (by omega) (by omega), ?_⟩⟩
  rw [sI_ne (i := 52) (a := 52) (j := 1 + 5 * t) (b := 2 + 5 * t) (by omega), hE.st_ (show 2 + 5 * t < 41 by omega)]
  -- then the rest
  have fin : ∀ τ1, FrK true τ τ1 → (∀ i, i < 41 → i ≠ 5 + 5 * t → τ1.1 52 i = nI (brS s.1 t i)) → τ1.1 0 58 = τ.1 0 58 → T_isBreaking_40 K (nI t) τ1 := by
    intro τ1 f1 hs1 h58
    unfold T_isBreaking_40
    rw [show (5 : Int32) + 5 * nI t = nI (5 + 5 * t) from i5 t 5, nI_clamp (by omega)]
    refine ⟨vi_ (by omega) (by omega), st_ (st_ ?_)⟩
    have f2 : FrK true τ (sI (sI τ1 52 (5 + 5 * t) 0) 0 58 ((sI τ1 52 (5 + 5 * t) 0).1 0 58 + 1)) := (f1.w (Or.inl (by omega))).w58
    have hd : DC I fr th (brS s.1 t, s.2) (sI (sI τ1 52 (5 + 5 * t) 0) 0 58 ((sI τ1 52 (5 + 5 * t) 0).1 0 58 + 1)) := by
      refine h.num f2 (fun i hi => ?_) (brS_bd hb ht)
      rw [sI_neI (by omega)]
      by_cases a : i = 5 + 5 * t
      · subst a; rw [sI_same]; unfold brS; rw [fu_same]; rfl
      · rw [sI_ne (by omega)]; exact hs1 i hi a
    refine T_isKept_law rfl hd fun τ2 d2 f3 e58 => hk τ2 d2 (f2.up.trans f3) ?_
    rw [e58, sI_same, sI_neI (by omega), h58]
  by_cases h99 : 99 ≤ s.1 (2 + 5 * t)
  · refine br_t (show nI 99 ≤ nI _ from nI_le h99 (by omega)) (fin _ ((FrK.refl _ τ).w (Or.inl (by omega))) (fun i hi hi5 => ?_) (by rw [sI_neI (by omega)]))
    unfold brS
    rw [fu_ne hi5]
    by_cases b : i = 2 + 5 * t
    · subst b; rw [fu_same, sI_ne (by omega), hE.st_ hi]; congr 1; omega
    · rw [fu_ne b]
      by_cases c : i = 1 + 5 * t
      · subst c; rw [fu_same, sI_same]; rfl
      · rw [fu_ne c, sI_ne (by omega)]; exact hE.st_ hi
  · refine br_f (show ¬ nI 99 ≤ nI _ from nI_ge (by omega) (by omega)) ⟨vi_ (by omega) (by omega), vi_ (by omega) (by omega), st_ ?_⟩
    rw [nI_1]
    refine fin _ (((FrK.refl _ τ).w (Or.inl (by omega))).w (Or.inl (by omega))) (fun i hi hi5 => ?_) (by rw [sI_neI (by omega), sI_neI (by omega)])
    unfold brS
    rw [fu_ne hi5]
    by_cases b : i = 2 + 5 * t
    · subst b; rw [fu_same, sI_same]; congr 1; omega
    · rw [fu_ne b, sI_ne (by omega)]
      by_cases c : i = 1 + 5 * t
      · subst c; rw [fu_same, sI_same]; rfl
      · rw [fu_ne c, sI_ne (by omega)]; exact hE.st_ hi
theorem spFine_le (hI : IslOK I) {s : Nat → Nat} (hm : m < iC I 1) : spFine I fr s t m ≤ 99 := by
  have := (hI.2.2.2.1 m hm).1
  unfold spFine
  split
  · omega
  · exact (clN_le (by omega)).2
theorem T_isMending_law {K : Sto → Prop} (h : DC I fr th s τ) (ht : t < iC I 0) (hm : m < iC I 1) (hk : ∀ τ', DC I fr th (spMend I fr s t m) τ' → FrK th τ τ' → τ'.1 0 58 = τ.1 0 58 → K τ') : T_isMending τ (nI t) (nI m) K := by
  have hE := h.1
  have hc := hE.c
  have hb := hE.2.2.2.1
  have hb3 := hb.2.1 (3 + 5 * t) (by omega) (by omega)
  have hfl := spFine_le (fr := fr) (t := t) (s := s.1) hE.1 hm
  refine T_fineOf_law hE ht hm fun τ0 f0 => ?_
  have hE0 := hE.fr_ f0
  rw [show (1 : Int32) + 5 * nI t = nI (1 + 5 * t) from i5 t 1, show (3 : Int32) + 5 * nI t = nI (3 + 5 * t) from i5 t 3, nI_clamp (by omega), nI_clamp (by omega)]
  refine ⟨vi_ (by omega) (by omega), st_ ⟨vi_ (by omega) (by omega), ?_⟩⟩
  rw [sI_ne (i := 52) (a := 52) (j := 1 + 5 * t) (b := 3 + 5 * t) (by omega), hE0.st_ (show 3 + 5 * t < 41 by omega)]
  have f0k : FrK true τ τ0 := FrK.ofE f0
  have h580 : τ0.1 0 58 = τ.1 0 58 := f0.1 0 58 (by omega)
  have fin : ∀ τ1, FrK true τ τ1 → (∀ i, i < 41 → i ≠ 4 + 5 * t → τ1.1 52 i = nI (meS s.1 t (spFine I fr s.1 t m) i)) → τ1.1 0 58 = τ.1 0 58 → T_isMending_47 K (nI t) (nI m) (nI (spFine I fr s.1 t m)) τ1 := by
    intro τ1 f1 hs1 h58
    unfold T_isMending_47
    rw [show (4 : Int32) + 5 * nI t = nI (4 + 5 * t) from i5 t 4, nI_clamp (by omega), nI_1]
    refine ⟨vi_ (by omega) (by omega), st_ ?_⟩
    have f2 : FrK true τ (sI τ1 52 (4 + 5 * t) (nI (spFine I fr s.1 t m))) := f1.w (Or.inl (by omega))
    have hd : DC I fr th (meS s.1 t (spFine I fr s.1 t m), s.2) (sI τ1 52 (4 + 5 * t) (nI (spFine I fr s.1 t m))) := by
      refine h.num f2 (fun i hi => ?_) (meS_bd hb (by omega) hfl)
      by_cases a : i = 4 + 5 * t
      · subst a; rw [sI_same]; unfold meS; rw [fu_same]
      · rw [sI_ne (by omega)]; exact hs1 i hi a
    refine T_isKept_law rfl hd fun τ2 d2 f3 e58 => hk τ2 d2 (f2.up.trans f3) ?_
    rw [e58, sI_neI (by omega), h58]
  by_cases h99 : 99 ≤ s.1 (3 + 5 * t)
  · refine br_t (show nI 99 ≤ nI _ from nI_le h99 (by omega)) (fin _ (f0k.w (Or.inl (by omega))) (fun i hi hi5 => ?_) (by rw [sI_neI (by omega)]; exact h580))
    unfold meS
    rw [fu_ne hi5]
    by_cases b : i = 3 + 5 * t
    · subst b; rw [fu_same, sI_ne (by omega), hE0.st_ hi]; congr 1; omega
    · rw [fu_ne b]
      by_cases c : i = 1 + 5 * t
      · subst c; rw [fu_same, sI_same]; rfl
      · rw [fu_ne c, sI_ne (by omega)]; exact hE0.st_ hi
  · refine br_f (show ¬ nI 99 ≤ nI _ from nI_ge (by omega) (by omega)) ⟨vi_ (by omega) (by omega), vi_ (by omega) (by omega), st_ ?_⟩
    rw [nI_1]
    refine fin _ ((f0k.w (Or.inl (by omega))).w (Or.inl (by omega))) (fun i hi hi5 => ?_) (by rw [sI_neI (by omega), sI_neI (by omega)]; exact h580)
    unfold meS
    rw [fu_ne hi5]
    by_cases b : i = 3 + 5 * t
    · subst b; rw [fu_same, sI_same]; congr 1; omega
    · rw [fu_ne b, sI_ne (by omega)]
      by_cases c : i = 1 + 5 * t
      · subst c; rw [fu_same, sI_same]; rfl
      · rw [fu_ne c, sI_ne (by omega)]; exact hE0.st_ hi
end TB
