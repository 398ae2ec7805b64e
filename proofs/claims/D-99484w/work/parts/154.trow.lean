/-! PURE SIDE: row; the model's. -/
section TRy
variable {a : AS} {τ τ' : Sto} {K : Int32 → Sto → Prop}
theorem rowB_it {I : Isl} {s : Nat → Nat} (h6 : (brL s (iC I 0)).length ≤ 6) (h8 : iC I 0 ≤ 8) : rowB I s = ((itL (brL s (iC I 0)).length 720 (List.range (brL s (iC I 0)).length)).map (fun l => l.map (fun j => (brL s (iC I 0)).getD j 0))).foldl (rwS I s) none := by
  unfold rowB
  have hw := brL_moW (s := s) (n := iC I 0) h8
  generalize hB : brL s (iC I 0) = B at h6 hw ⊢
  have e := range_map B
  have hd : dfsL B.length ((List.range B.length).map (fun j => B.getD j 0)) = (dfsL B.length (List.range B.length)).map (fun q => q.map (fun j => B.getD j 0)) := dfsL_map _ _ (fun x y hx hy z => by
    have hx := List.mem_range.1 hx
    have hy := List.mem_range.1 hy
    have z : B.getD x 0 = B.getD y 0 := z
    by_cases c : x < y
    · have : B.getD x 0 < B.getD y 0 := hw.1 x y c hy
      omega
    · by_cases c2 : y < x
      · have : B.getD y 0 < B.getD x 0 := hw.1 y x c2 hx
        omega
      · omega)
  rw [e] at hd
  rw [hd, it_dfs _ (by omega)]
theorem T_row_law {x : Int32} (h : RT a τ) (hk : ∀ τ', RT a τ' → K (sp_row a x) τ') : T_row τ x K := by
  have hE := h.ev
  have hc := hE.c
  have hlen := brL_len (aS a).1 (iC (aI a) 0)
  rw [cntP_bc hc.1] at hlen
  have h8 := hlen
  unfold sp_row at hk
  have hbc := bcN_le (setN (fun t => decide ((aS a).1 (1 + 5 * t) = 1)) (iC (aI a) 0))
  refine T_setOf_law (x := 1) rfl (by omega) hE (T_bits_law (setN_256 _ hc.1) ?_)
  rw [← hlen]
  have hro := rowB_it (I := aI a) (s := (aS a).1)
  have hw := brL_moW (s := (aS a).1) (n := iC (aI a) 0) hc.1
  by_cases c6 : (brL (aS a).1 (iC (aI a) 0)).length ≤ 6
  · rw [decide_eq_true c6, Bool.true_and] at hk
    refine br_f (show ¬ nI 6 < nI _ from nI_nlt c6 (by omega)) (T_menderMany_law hE ?_)
    by_cases cm : iC (aI a) 1 = 0
    · rw [decide_eq_false (by simpa using cm), Bool.false_and] at hk
      exact br_t (by rw [cm]; rfl) (hk τ h)
    rw [decide_eq_true (by simpa using cm), Bool.true_and] at hk
    refine br_f (nI_ne0 (by omega) (by omega)) (T_isInI (lo := -1) (hi := ((brL (aS a).1 (iC (aI a) 0)).length : Int) - 1) rfl (pred_int (by omega)) ?_)
    cases ex : inR x (-1) (((brL (aS a).1 (iC (aI a) 0)).length : Int) - 1) with
    | false => rw [ex] at hk; exact bn_f rfl (hk τ h)
    | true =>
      rw [ex, if_pos rfl, hro c6 hc.1] at hk
      refine bn_t (by decide) ⟨iC (aI a) 0 + 1, ?_⟩
      have mono : ∀ t, t ≤ iC (aI a) 0 → ∃ r, brL (aS a).1 (iC (aI a) 0) = brL (aS a).1 t ++ r := by
        intro t ht
        obtain ⟨d, e⟩ : ∃ d, iC (aI a) 0 = t + d := ⟨iC (aI a) 0 - t, by omega⟩
        rw [e]
        clear e
        induction d with
        | zero => exact ⟨[], (List.append_nil _).symm⟩
        | succ d ih =>
          obtain ⟨r, er⟩ := ih
          exact ⟨_, by rw [show t + (d + 1) = t + d + 1 by omega, brL_s, er, List.append_assoc]⟩
      have lp : ∀ (d g t : Nat) (τ' : Sto), iC (aI a) 0 - t = d → d < g → t ≤ iC (aI a) 0 → RT a τ' → (∀ j, j < (brL (aS a).1 t).length → τ'.1 62 j = nI ((brL (aS a).1 t).getD j 0)) → T_row_44 K x (nI (brL (aS a).1 (iC (aI a) 0)).length) g (nI (brL (aS a).1 t).length) (nI t) τ' := by
        intro d
        induction d with
        | zero =>
          intro g t τ' hd hg ht hR ho
          obtain ⟨g, rfl⟩ : ∃ f', g = f' + 1 := ⟨g - 1, by omega⟩
          obtain rfl : t = iC (aI a) 0 := by omega
          unfold T_row_44
          obtain ⟨k1, k2⟩ := it_ok (brL (aS a).1 (iC (aI a) 0)).length (by omega)
          refine T_thingMany_law hR.ev (br_t (nI_le (by omega) (by omega)) ⟨722, T_row_85_law (a := a) c6 hw (fun j hj => ?_) (by omega) ex 720 (List.range _) none 722 τ' (by omega) k1 k2 hR ⟨List.length_range, fun j hj => ?_, fun j hj => ?_⟩ (fun p z => by cases z) hk⟩)
          · show (brL (aS a).1 (iC (aI a) 0)).getD j 0 < _
            rw [List.getD_eq_getElem?_getD, List.getElem?_eq_getElem hj]
            exact brL_mem (List.getElem_mem hj)
          · rw [List.getD_eq_getElem?_getD, List.getElem?_range hj]; exact hj
          · rw [ho j hj, List.getD_eq_getElem?_getD (l := List.range _), List.getElem?_range hj]; rfl
        | succ d ih =>
          intro g t τ' hd hg ht hR ho
          obtain ⟨g, rfl⟩ : ∃ f', g = f' + 1 := ⟨g - 1, by omega⟩
          unfold T_row_44
          have nx := ih g (t + 1)
          rw [brL_s] at nx
          refine T_thingMany_law hR.ev (br_f (nI_ge (by omega) (by omega)) (T_isBroken_law hR.ev (by omega) ?_))
          by_cases c : (aS a).1 (1 + 5 * t) = 1
          · rw [if_pos c, List.length_append, List.length_singleton] at nx
            have hlt : (brL (aS a).1 t).length < 6 := by
              obtain ⟨r, er⟩ := mono (t + 1) (by omega)
              rw [brL_s, if_pos c] at er
              have := congrArg List.length er
              rw [List.length_append, List.length_append, List.length_singleton] at this
              omega
            rw [decide_eq_true c, nI_clamp (by omega), nI_1, nI_1]
            refine br_f (by decide) ⟨vi_ (by omega) (by omega), st_ (nx _ (by omega) (by omega) (by omega) (hR.scr (by simp [scrT]) (by omega)) (fun j hj => ?_))⟩
            by_cases cj : j = (brL (aS a).1 t).length
            · subst cj
              rw [sI_same, List.getD_eq_getElem?_getD, List.getElem?_append_right (Nat.le_refl _), Nat.sub_self]; rfl
            · rw [sI_ne (by omega), ho j (by omega), List.getD_eq_getElem?_getD, List.getD_eq_getElem?_getD, List.getElem?_append_left (by omega)]
          · rw [if_neg c, List.append_nil] at nx
            rw [decide_eq_false c, nI_1]
            exact br_t rfl (nx τ' (by omega) (by omega) (by omega) hR ho)
      exact lp _ _ 0 τ rfl (by omega) (by omega) h (fun j z => absurd z (by show ¬ j < 0; omega))
  · rw [decide_eq_false c6] at hk
    exact br_t (show nI 6 < nI _ from nI_lt (by omega) (by omega)) (hk τ h)
end TRy
