/-! PURE SIDE: tells, see; the model's. -/
def moN (n : Nat) : Nat := if n ≤ 10 - n then 10 - n else n
def teS (a : AS) (t k : Nat) (b : Option Nat × Nat) : Option Nat × Nat := if b.1 = none ∨ moN (cntP (fun f => br1 a t f (k + 1)) 10) < b.2 then (some (k + 1), moN (cntP (fun f => br1 a t f (k + 1)) 10)) else b
def sp_tells (a : AS) (x y : Int32) : Int32 := if isTh a x && (inR y 0 1 && ahd ((aS a).1 0) 30 30 30) then (if y = 0 then ixI (lpN (teS a (ix x)) 30 (none, 0)).1 else nI (lpN (teS a (ix x)) 30 (none, 0)).2) else -1
section TTe
variable {a : AS} {τ τ' : Sto} {K : Int32 → Sto → Prop}
theorem cntP_le (p : Nat → Bool) (n : Nat) : cntP p n ≤ 1 * n := lpN_le (fun t a => by split <;> omega) n
theorem moN_le {n : Nat} (h : n ≤ 10) : moN n ≤ 10 := by unfold moN; split <;> omega
theorem teS_inv {t : Nat} : ∀ n, (lpN (teS a t) n (none, 0)).2 ≤ 10 ∧ ∀ b, (lpN (teS a t) n (none, 0)).1 = some b → b ≤ n
  | 0 => ⟨Nat.zero_le _, fun b h => by cases h⟩
  | n + 1 => by
    obtain ⟨h1, h2⟩ := teS_inv (t := t) n
    have e : lpN (teS a t) (n + 1) (none, 0) = teS a t n (lpN (teS a t) n (none, 0)) := rfl
    rw [e]
    unfold teS
    split
    · refine ⟨moN_le (by have := cntP_le (fun f => br1 a t f (n + 1)) 10; omega), fun b h => ?_⟩
      cases h; omega
    · exact ⟨h1, fun b h => by have := h2 b h; omega⟩
theorem sub10 : ∀ n, n ≤ 10 → (10 : Int32) - nI n = nI (10 - n) := by decide
theorem T_tells_law {x y : Int32} (h : RT a τ) (hk : ∀ τ', RT a τ' → K (sp_tells a x y) τ') : T_tells τ x y K := by
  have hc := h.ev.c
  unfold sp_tells isTh at hk
  refine T_isThing_law h ?_
  cases e : inR x 0 ((iC (aI a) 0 : Int) - 1) with
  | false => rw [e] at hk; exact br_t rfl (hk τ h)
  | true =>
    rw [e, Bool.true_and] at hk
    obtain ⟨q1, q2⟩ := inR_ix e (by omega)
    generalize ix x = t at q1 q2 hk
    subst q1
    refine br_f (by decide) (T_isInI (lo := 0) (hi := 1) rfl rfl ?_)
    cases e2 : inR y 0 1 with
    | false => rw [e2] at hk; exact br_t rfl (hk τ h)
    | true =>
      rw [e2, Bool.true_and] at hk
      refine br_f (by decide) (T_isAhead_law h.ev (lo := 30) (hi := 30) rfl rfl (by omega) (by omega) ?_)
      cases e3 : ahd ((aS a).1 0) 30 30 30 with
      | false => rw [e3] at hk; exact bn_f rfl (hk τ h)
      | true =>
        rw [e3, if_pos rfl] at hk
        refine bn_t (by decide) (T_laysBreaks_law (n := 30) h q2 (by omega) fun τ1 h1 hB => ⟨31, ?_⟩)
        have hk1 := hk τ1 h1
        have lp : ∀ (d g k : Nat), 30 - k = d → d < g → k ≤ 30 → T_tells_48 K y g (ixI (lpN (teS a t) k (none, 0)).1) (nI (lpN (teS a t) k (none, 0)).2) (nI (k + 1)) τ1 := by
          intro d
          induction d with
          | zero =>
            intro g k hd hg hk30
            obtain ⟨g, rfl⟩ : ∃ f', g = f' + 1 := ⟨g - 1, by omega⟩
            obtain rfl : k = 30 := by omega
            unfold T_tells_48
            refine br_t (by decide) ?_
            by_cases y0 : y = 0
            · rw [if_pos y0] at hk1; exact bn_f y0 hk1
            · rw [if_neg y0] at hk1; exact bn_t y0 hk1
          | succ d ih =>
            intro g k hd hg hk30
            obtain ⟨g, rfl⟩ : ∃ f', g = f' + 1 := ⟨g - 1, by omega⟩
            obtain ⟨b1', b2'⟩ := teS_inv (a := a) (t := t) k
            have es : lpN (teS a t) (k + 1) (none, 0) = teS a t k (lpN (teS a t) k (none, 0)) := rfl
            have hq := ih g (k + 1) (by omega) (by omega) (by omega)
            rw [es, teS] at hq
            generalize lpN (teS a t) k (none, 0) = B at b1' b2' hq
            unfold T_tells_48
            refine br_f (show ¬ nI 30 < nI (k + 1) from nI_nlt (by omega) (by omega)) ⟨11, ?_⟩
            have lp2 : ∀ (d2 g2 f : Nat), 10 - f = d2 → d2 < g2 → f ≤ 10 → T_tells_61 K (T_tells_48 K y g) y (ixI B.1) (nI B.2) (nI (k + 1)) g2 (nI (cntP (fun f => br1 a t f (k + 1)) f)) (nI f) τ1 := by
              intro d2
              induction d2 with
              | zero =>
                intro g2 f hd2 hg2 hf
                obtain ⟨g2, rfl⟩ : ∃ f', g2 = f' + 1 := ⟨g2 - 1, by omega⟩
                obtain rfl : f = 10 := by omega
                unfold T_tells_61
                have hle := cntP_le (fun f => br1 a t f (k + 1)) 10
                generalize cntP (fun f => br1 a t f (k + 1)) 10 = C at hle hq
                rw [sub10 C (by omega)]
                refine br_t (by decide) ?_
                have go : T_tells_113 K (T_tells_48 K y g) y (ixI B.1) (nI B.2) (nI (k + 1)) (nI (moN C)) τ1 := by
                  have hm := moN_le (n := C) (by omega)
                  unfold T_tells_113
                  rw [nI_1]
                  cases eb : B.1 with
                  | none => rw [if_pos (Or.inl eb)] at hq; exact br_t rfl hq
                  | some b =>
                    have := b2' b eb
                    refine br_f (fun z => nI_m1 (by omega) z.symm) ?_
                    by_cases c : moN C < B.2
                    · rw [if_pos (Or.inr c)] at hq; exact br_t (nI_lt c (by omega)) hq
                    · rw [if_neg (by rintro (z | z); · rw [eb] at z; cases z
                                     · exact c z), eb] at hq
                      exact br_f (nI_nlt (by omega) (by omega)) hq
                unfold moN at go
                by_cases c : C ≤ 10 - C
                · rw [if_pos c] at go; exact br_t (nI_le c (by omega)) go
                · rw [if_neg c] at go; exact br_f (nI_ge (by omega) (by omega)) go
              | succ d2 ih2 =>
                intro g2 f hd2 hg2 hf
                obtain ⟨g2, rfl⟩ : ∃ f', g2 = f' + 1 := ⟨g2 - 1, by omega⟩
                unfold T_tells_61
                have i1 : 31 * nI f + nI (k + 1) = nI (31 * f + (k + 1)) := by rw [show (31 : Int32) * nI f = nI (31 * f) from nI_mul 31 f, nI_add]
                have es2 : cntP (fun f => br1 a t f (k + 1)) (f + 1) = cntP (fun f => br1 a t f (k + 1)) f + (if br1 a t f (k + 1) = true then 1 else 0) := rfl
                have hn := ih2 g2 (f + 1) (by omega) (by omega) (by omega)
                rw [i1, nI_clamp (by omega), hB f (k + 1) (by omega) (by omega) (by omega), nI_1, nI_1]
                refine br_f (show ¬ nI 10 ≤ nI f from nI_ge (by omega) (by omega)) ⟨vi_ (by omega) (by omega), ?_⟩
                cases eb : br1 a t f (k + 1) with
                | true => rw [eb, if_pos rfl] at es2; rw [es2] at hn; exact br_f (by decide) hn
                | false => rw [eb, if_neg (by decide)] at es2; rw [es2] at hn; exact br_t rfl hn
            exact lp2 10 11 0 rfl (by omega) (by omega)
        exact lp 30 31 0 rfl (by omega) (by omega)
end TTe
