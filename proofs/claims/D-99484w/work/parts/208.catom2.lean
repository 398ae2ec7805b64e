/-! COMPONENT, PURE SIDE: parts of sums, whole. -/
theorem ctx_alw : ∀ tk, tk < 4 → ∀ i, i < 10 → (((ctx tk >>> (nI i &&& 31)) &&& 1 = (1 : Int32)) ↔ alw tk i = true) := by decide +kernel
theorem ctx_895 : ∀ tk, tk < 4 → (ctx tk = 895 ↔ tk = 3) := by decide
theorem tsA_1 : tsA 1 = askWs := by decide
theorem tsA_2 : tsA 2 = [isWd] := by decide
section CAu
variable {σ0 σ σ' : CS} {i j k k' n o q x mc ms c m tk d : Nat} {B : Byt} {S S' : Nat → Prop} {PA PF : PTR} {A : Nat → Rs (VV × Nat)}
theorem cr_has {K : Int32 → CS → Prop} (ht : tk < 4) (hi : i < 10) (h5 : gI σ 9 5 = ctx tk) (h1 : alw tk i = true → K 1 σ) (h0 : alw tk i = false → K 0 σ) : U_X0_has σ (gI σ 9 5) (nI i) K := by
  unfold U_X0_has
  rw [h5, ctx_alw tk ht i hi]
  cases e : alw tk i with
  | true => exact bn_f rfl (h1 e)
  | false => exact bn_t (by decide) (h0 e)
/-- what stands behind: a part with one behind it -/
theorem cr_looked {K : Nat → CS → Prop} {E : CS → Prop} {p : Nat} (ht : tk = 3) (hA : AtL B n tk d 20 1800 PA A (o + 1)) (hp : PrA n A) (h : RdC B n σ k o) (h5 : gI σ 9 5 = ctx tk) (h3 : gI σ 9 3 = nI p) (hcb : σ.1 + mc ≤ CB) (hb1 : 60 * bd n k (A k) ≤ mc) (hb2 : 4500 * bd n k (A k) ≤ ms)
    (hE6 : o = 6 → ErC mc σ E (4, p)) (hE : o ≠ 6 → ∀ e, A k = .inl e → ErC mc σ E e) (hK : o ≠ 6 → ∀ w k', A k = .inr (w, k') → ∀ σ' q, FrC σ σ' → σ'.1 ≤ σ.1 + mc → RdC B n σ' k' o → VC tk σ' (newS σ.1 σ'.1) (d + 1) q (fun e => hdL (e.2 (w e))) → K (q + 1) σ') : U_X2_looked PA PF mc ms σ 0 K E := by
  have hsz := h.sz
  have hkn := h.kn
  have hb0 : 1 ≤ bd n k (A k) := by
    cases hAk : A k with
    | inl e => show 1 ≤ n + 6 - k; omega
    | inr r => have := hp _ r.1 r.2 hkn hAk; show 1 ≤ r.2 - k; omega
  refine cr_opens (mc := mc) h h3 hE6 (fun e6 s f z g _ => ⟨⟨by omega, by omega⟩, by omega, st_ ⟨60 * bd n k (A k) - 20, 4500 * bd n k (A k) - 1800, ⟨by omega, by omega⟩, ?_⟩⟩)
  obtain ⟨t, ht0⟩ : ∃ t, t = nC s kO17 := ⟨_, rfl⟩
  rw [← ht0]
  have zt : t.1 = σ.1 + 1 := by rw [ht0]; show s.1 + 1 = _; omega
  have fs : FrS s t := by rw [ht0]; exact (FrS.refl s).nC (by omega)
  have gt : RdC B n t k (o + 1) := g.frS fs (by omega)
  have kt : gK t s.1 = some kO17 := by rw [ht0]; exact gK_n
  have f1 : FrC σ t := f.trans fs.c
  refine hA _ _ k t _ _ gt (ctx_fr h5 f1 hsz.1) (by omega) (by omega) (by omega) (fun e he => (hE e6 e he).go f1 (by omega)) (fun w k' hw u q fu zu gu vu => ⟨q, rfl, ?_⟩)
  have fu1 := fu.1
  have ku : gK u s.1 = some kO17 := by rw [(fu.agr (Or.inl (by omega)) (by omega) (by omega)).1]; exact kt
  have hc : s.1 < CB := by omega
  refine ⟨hc, ku, st_ ⟨hc, ku, st_ ⟨hc, ku, st_ (st_ ?_)⟩⟩⟩
  obtain ⟨v, hv⟩ : ∃ v, v = wR (wI (wR u s.1 2 (0 + 1)) s.1 0 0) s.1 1 (q + 1) := ⟨_, rfl⟩
  rw [← hv]
  have av : ∀ i, i ≠ s.1 → agr u v i := fun i hi => by rw [hv]; exact (((agr.refl u i).wR hi).wI hi).wR hi
  have zv : v.1 = u.1 := by rw [hv]; rfl
  have gv : RdC B n v k' (o + 1) := gu.agr (fun i hi => av i (by omega)) (by omega) (by omega)
  have fv : FrC σ v := by rw [hv]; exact (((f1.trans fu).wR ⟨by omega, hc⟩).wI (Or.inr ⟨by omega, hc⟩)).wR ⟨by omega, hc⟩
  have ho := h.oo
  rw [op_1 gv]
  have aw : ∀ i, i ≠ 9 → agr v (wI v 9 4 (nI o)) i := fun i hi => (agr.refl v i).wI hi
  refine hK e6 w k' hw _ s.1 (fv.wI (Or.inl scR_4)) (by show v.1 ≤ _; omega) (gv.opn ho) ⟨⟨by omega, by show s.1 < v.1; omega⟩, Or.inr (Or.inr (Or.inl ⟨?_, ht, ?_, ?_, q, w, ?_, ?_, rfl⟩))⟩
  · rw [(aw _ (by omega)).1, hv]; exact ku
  · rw [(aw _ (by omega)).2.2.2, hv, gR_wn (by omega)]; exact gR_ws
  · rw [(aw _ (by omega)).2.1, hv]; exact gI_ws
  · rw [(aw _ (by omega)).2.2.2, hv]; exact gR_ws
  · refine VC.fr (S := newS t.1 u.1) (fun i hi => ?_) (fun i hi => newS_mono hi (by omega) (by show u.1 ≤ v.1; omega)) _ _ _ vu
    have := hi.1
    exact (av i (by omega)).trans (aw i (by omega))
theorem cr_a143 {K : Nat → CS → Prop} {E : CS → Prop} {s cx zx p : Nat} {w : List Nat} {AA : Nat → Nat → Rs (VV × Nat)} (hw : w = minWd ∨ w = maxWd) (hS : AtL B n tk (d + 2) 6 1600 (fun mc ms σ K E => U_X2_sum PA PF mc ms σ K E) (pSum B n (AA (o + 1))) (o + 1)) (hp : PrA n (pSum B n (AA (o + 1)))) (h : RdC B n σ q o) (h5 : gI σ 9 5 = ctx tk) (hs : WdC σ p s w) (hf : FrC σ0 σ) (hz : σ.1 ≤ σ0.1 + cx) (hcb : σ0.1 + mc ≤ CB)
    (hb1 : cx + 60 * bd n q (pWit B n AA (if w = minWd then 1 else 2) o q) ≤ mc + 20) (hb2 : zx + 4500 * bd n q (pWit B n AA (if w = minWd then 1 else 2) o q) ≤ ms + 1800) (hb3 : cx ≤ mc ∧ zx ≤ ms)
    (hE : ∀ e, pWit B n AA (if w = minWd then 1 else 2) o q = .inl e → ErC mc σ0 E e) (hK : ∀ v k', pWit B n AA (if w = minWd then 1 else 2) o q = .inr (v, k') → ∀ σ' q, FrC σ0 σ' → σ'.1 ≤ σ0.1 + mc → RdC B n σ' k' o → VC tk σ' (newS σ0.1 σ'.1) (d + 3) q v → K (q + 1) σ') : U_X2_atom_143 PA PF mc ms K E (s + 1) cx zx σ := by
  have hsc : s < CB := by have := hs.1.1.2; have := h.sz; omega
  have f1 := hf.1
  have km := strK h.ko (t := 30) (q := 1048652) (by omega) rfl
  refine ⟨s, rfl, hs.1.2.1, cr_equals hs.1 km (Or.inl hsc) ?_⟩
  have go : ∀ (two : Nat) (x1 : Int32), x1 = nI two → two ≤ 2 → two = (if w = minWd then 1 else 2) → ∃ mc6 ms7 : Nat, (cx + mc6 ≤ mc ∧ zx + ms7 ≤ ms) ∧ U_X2_within PA PF mc6 ms7 σ x1 (fun r5 σ4 => K r5 σ4) E := by
    intro two x1 hx h2 e2
    rw [← e2] at hb1 hb2 hE hK
    refine ⟨mc - cx, ms - zx, ⟨by omega, by omega⟩, cr_within hx h2 hS hp h h5 (by omega) (by omega) (by omega) (fun e he => (hE e he).go hf (by omega)) (fun v k' hv t r ft zt gt vt => hK v k' hv t r (hf.trans ft) (by omega) gt (VC.fr (fun i _ => agr.refl t i) (fun i hi => newS_mono hi (by omega) (Nat.le_refl _)) _ _ _ vt))⟩
  by_cases e : w = minWd
  · rw [decide_eq_true (by rw [e]; rfl)]
    refine br_f (by decide) (go 1 1 rfl (by omega) (by rw [if_pos e]))
  · rw [decide_eq_false (fun z => e (by rw [z]; rfl))]
    exact br_t rfl (go 2 2 rfl (by omega) (by rw [if_neg e]))
theorem cr_atom1 {AA : Nat → Nat → Rs (VV × Nat)} (ht : tk < 4) (hA : AtL B n tk d 20 1800 PA (AA (o + 1)) (o + 1)) (hp : PrA n (AA (o + 1))) (hAA : pAtm B n tk (m + 1) o = fun k => if bt B n (skp B n k) = 40 then pWit B n AA 0 o k else if pD (bt B n (skp B n k)) then rsB (pNum B n k 0 9999) (fun r => .inr ((fun _ => (nI r.1).toInt64), r.2)) else rsB (pWord B n k) (fun r =>
      if (askWs.findIdx? (fun w => decide (wd B r.1 r.2 = w))).any (alw tk) then .inr ((fun e => hdL (e.1 ((askWs.findIdx? (fun w => decide (wd B r.1 r.2 = w))).getD 0))), r.2)
      else if tk = 3 ∧ wd B r.1 r.2 = isWd then
        if o = 6 then .inl (4, r.1) else rsB (AA (o + 1) r.2) (fun x => .inr ((fun e => hdL (e.2 (x.1 e))), x.2))
      else if wd B r.1 r.2 = minWd then pWit B n AA 1 o r.2
      else if wd B r.1 r.2 = maxWd then pWit B n AA 2 o r.2
      else .inl (1, r.1))) : AtL B n tk (d + 3) 20 1800 (fun mc ms σ K E => U_X2_atom PA PF mc ms σ K E) (pAtm B n tk (m + 1) o) o := by
  have hS : AtL B n tk (d + 2) 6 1600 (fun mc ms σ K E => U_X2_sum PA PF mc ms σ K E) (pSum B n (AA (o + 1))) (o + 1) := cr_sum hA hp
  have hSp := pSum_pr (B := B) hp
  have hprA := pAtm_pr (B := B) (n := n) (tk := tk) (m + 1) o
  intro mc ms k σ K E h h5 hcb hb1 hb2 hE hK
  have hsz := h.sz
  have hkn := h.kn
  have hn := h.nn
  have hge := skp_ge B n k
  have hle := skp_le (B := B) hkn
  have hb0 : 1 ≤ bd n k (pAtm B n tk (m + 1) o k) := by
    cases hAk : pAtm B n tk (m + 1) o k with
    | inl e => show 1 ≤ n + 6 - k; omega
    | inr r => have := hprA _ r.1 r.2 hkn hAk; show 1 ≤ r.2 - k; omega
  have hX : ∀ {X : Rs (VV × Nat)} {k1 : Nat}, pAtm B n tk (m + 1) o k = X → k < k1 → k1 ≤ n → (∀ w k', X = .inr (w, k') → k1 ≤ k') → 60 * (k1 - k) + 60 * bd n k1 X ≤ mc + 20 ∧ 4500 * (k1 - k) + 4500 * bd n k1 X ≤ ms + 1800 := by
    intro X k1 e h1 h2 h3
    rw [e, bd_split (k1 := k1) (by omega) h2 h3] at hb1 hb2
    omega
  refine cr_here h fun s f hs g => ?_
  have c1 := ctx_fr h5 f hsz.1
  by_cases e : bt B n (skp B n k) = 40
  · have ek : pAtm B n tk (m + 1) o k = pWit B n AA 0 o k := by rw [hAA]; exact if_pos e
    have ek2 : pWit B n AA 0 o (skp B n k) = pWit B n AA 0 o k := by unfold pWit; rw [skp_idem]
    rw [ek] at hb1 hb2 hE hK
    refine bn_f ((cI_eq (d := 40) (bt_le h.by_) (by omega)).mpr e) ⟨mc, ms, ⟨by omega, by omega⟩, cr_within (two := 0) rfl (by omega) hS hSp g c1 (by omega) ?_ ?_ (fun z hz => ?_) (fun v k' hv t r ft zt gt vt => ?_)⟩
    · rw [ek2]
      cases hAk : pWit B n AA 0 o k with
      | inl z => rw [hAk] at hb1; have hb1 : 60 * (n + 6 - k) ≤ mc + 20 := hb1; show 60 * (n + 6 - skp B n k) ≤ _; omega
      | inr r => rw [hAk] at hb1; have hb1 : 60 * (r.2 - k) ≤ mc + 20 := hb1; show 60 * (r.2 - skp B n k) ≤ _; omega
    · rw [ek2]
      cases hAk : pWit B n AA 0 o k with
      | inl z => rw [hAk] at hb2; have hb2 : 4500 * (n + 6 - k) ≤ ms + 1800 := hb2; show 4500 * (n + 6 - skp B n k) ≤ _; omega
      | inr r => rw [hAk] at hb2; have hb2 : 4500 * (r.2 - k) ≤ ms + 1800 := hb2; show 4500 * (r.2 - skp B n k) ≤ _; omega
    · rw [ek2] at hz
      exact (hE z hz).go f (by omega)
    · rw [ek2] at hv
      refine hK v k' hv t r (f.trans ft) (by omega) gt ?_
      rw [← hs]; exact vt
  · refine bn_t (fun z => e ((cI_eq (bt_le h.by_) (d := 40) (by omega)).mp z)) (cr_here g fun s1 f1 hs1 g1 => cr_digit ?_ ?_)
    · rw [skp_idem]; exact bt_le h.by_
    rw [skp_idem] at g1 ⊢
    have ff := f.trans f1
    have c2 := ctx_fr h5 ff hsz.1
    cases ed : pD (bt B n (skp B n k)) with
    | true =>
      have ek : pAtm B n tk (m + 1) o k = rsB (pNum B n k 0 9999) (fun r => .inr ((fun _ => (nI r.1).toInt64), r.2)) := by rw [hAA]; exact (if_neg e).trans (if_pos ed)
      rw [ek] at hE hK
      refine br_f (by decide) ⟨⟨by omega, by omega⟩, by omega, st_ ?_⟩
      obtain ⟨t, ht0⟩ : ∃ t, t = nC s1 kO15 := ⟨_, rfl⟩
      rw [← ht0]
      have zt : t.1 = σ.1 + 1 := by rw [ht0]; show s1.1 + 1 = _; omega
      have fs : FrS s1 t := by rw [ht0]; exact (FrS.refl s1).nC (by omega)
      have gt : RdC B n t (skp B n k) o := g1.frS fs (by omega)
      have kt : gK t s1.1 = some kO15 := by rw [ht0]; exact gK_n
      have ep : pNum B n (skp B n k) 0 9999 = pNum B n k 0 9999 := by unfold pNum; rw [skp_idem]
      refine cr_number (mc := 0) gt (lo := 0) (hi := 9999) rfl rfl (by omega) (by omega) (fun z hz => ?_) (fun v r hv u fu zu gu => ?_)
      · rw [ep] at hz
        rw [hz] at hE
        exact (hE z rfl).go (ff.trans fs.c) (by omega)
      · rw [ep] at hv
        rw [hv] at hK
        have hc : s1.1 < CB := by omega
        have ku : gK u s1.1 = some kO15 := by rw [(fu.agr (Or.inl (by omega)) (by omega) (by omega)).1]; exact kt
        refine ⟨hc, ku, st_ (hK _ _ rfl _ s1.1 (((ff.trans fs.c).trans fu).wL ⟨by omega, hc⟩) (by show u.1 ≤ _; omega) (gu.agr (fun i hi => (agr.refl u i).wL (by omega)) (Nat.le_refl _) (by show u.1 ≤ _; omega)) (VC.ge (d := 1) ⟨⟨by omega, by show s1.1 < u.1; omega⟩, Or.inl ⟨ku, ?_⟩⟩ (by omega)))⟩
        funext e
        exact gL_ws.symm
    | false =>
      have ek : pAtm B n tk (m + 1) o k = rsB (pWord B n k) (fun r =>
          if (askWs.findIdx? (fun w => decide (wd B r.1 r.2 = w))).any (alw tk) then .inr ((fun e => hdL (e.1 ((askWs.findIdx? (fun w => decide (wd B r.1 r.2 = w))).getD 0))), r.2)
          else if tk = 3 ∧ wd B r.1 r.2 = isWd then
            if o = 6 then .inl (4, r.1) else rsB (AA (o + 1) r.2) (fun x => .inr ((fun e => hdL (e.2 (x.1 e))), x.2))
          else if wd B r.1 r.2 = minWd then pWit B n AA 1 o r.2
          else if wd B r.1 r.2 = maxWd then pWit B n AA 2 o r.2
          else .inl (1, r.1)) := by rw [hAA]; exact (if_neg e).trans (if_neg (by rw [ed]; decide))
      refine br_t rfl ⟨3, 2564, ⟨by omega, by omega⟩, cr_word g1 (by omega) (by omega) (by omega) (fun z hz => ?_) (fun p r hv hp1 hp2 hp3 t wq ft zt gt t3 wt => ⟨wq, rfl, ?_⟩)⟩
      · rw [pWord_skp] at hz
        rw [ek, hz] at hE
        exact (hE z rfl).go ff (by omega)
      · rw [pWord_skp] at hv
        have fft := ff.trans ft
        have c3 := ctx_fr h5 fft hsz.1
        have ft1 := ft.1
        have hwc : wq < CB := by have := wt.1.1.2; omega
        rw [hv] at ek
        have ek : pAtm B n tk (m + 1) o k = (if (askWs.findIdx? (fun w => decide (wd B p r = w))).any (alw tk) then .inr ((fun e => hdL (e.1 ((askWs.findIdx? (fun w => decide (wd B p r = w))).getD 0))), r)
          else if tk = 3 ∧ wd B p r = isWd then
            if o = 6 then .inl (4, p) else rsB (AA (o + 1) r) (fun x => .inr ((fun e => hdL (e.2 (x.1 e))), x.2))
          else if wd B p r = minWd then pWit B n AA 1 o r
          else if wd B p r = maxWd then pWit B n AA 2 o r
          else .inl (1, p)) := ek
        -- the word is none that is asked of
        have rest : (askWs.findIdx? (fun w => decide (wd B p r = w))).any (alw tk) = false → U_X2_atom_80 PA PF mc ms K E (wq + 1) (0 + 3) (0 + 2564) t := by
          intro hno
          rw [hno, if_neg (by decide)] at ek
          have mm : ∀ (two : Nat), wd B p r = minWd ∧ two = 1 ∨ wd B p r = maxWd ∧ two = 2 → pAtm B n tk (m + 1) o k = pWit B n AA two o r → U_X2_atom_143 PA PF mc ms K E (wq + 1) (0 + 3) (0 + 2564) t := by
            intro two htw e1
            have hpw := pWit_pr (B := B) (two := two) hp
            have hb := hX e1 (by omega) hp3 (fun w k' hw => by have := hpw r w k' hp3 hw; omega)
            have e2 : (if wd B p r = minWd then 1 else 2) = two := by
              rcases htw with ⟨a, b⟩ | ⟨a, b⟩
              · rw [if_pos a, b]
              · rw [if_neg (by rw [a]; decide), b]
            rw [e1] at hE hK
            refine cr_a143 (σ0 := σ) (w := wd B p r) (htw.imp And.left And.left) hS hSp gt c3 wt fft (by omega) hcb (by rw [e2]; omega) (by rw [e2]; omega) ⟨by omega, by omega⟩ (by rw [e2]; exact hE) (by rw [e2]; exact hK)
          have nl : ¬ (tk = 3 ∧ wd B p r = isWd) → U_X2_atom_101 PA PF mc ms K E (wq + 1) (-1) (0 + 3) (0 + 2564) t := by
            intro hnl
            rw [if_neg hnl] at ek
            have km := strK gt.ko (t := 30) (q := 1048652) (by omega) rfl
            have kx := strK gt.ko (t := 31) (q := 1048654) (by omega) rfl
            refine br_t rfl ⟨wq, rfl, wt.1.2.1, cr_equals wt.1 km (Or.inl hwc) ?_⟩
            by_cases e1 : wd B p r = minWd
            · rw [decide_eq_true (by rw [e1]; rfl)]
              rw [if_pos e1] at ek
              exact bn_t (by decide) (mm 1 (Or.inl ⟨e1, rfl⟩) ek)
            · rw [decide_eq_false (fun z => e1 (by rw [z]; rfl))]
              rw [if_neg e1] at ek
              refine bn_f rfl ⟨wt.1.2.1, cr_equals wt.1 kx (Or.inl hwc) ?_⟩
              by_cases e2 : wd B p r = maxWd
              · rw [decide_eq_true (by rw [e2]; rfl)]
                rw [if_pos e2] at ek
                exact bn_t (by decide) (mm 2 (Or.inr ⟨e2, rfl⟩) ek)
              · rw [decide_eq_false (fun z => e2 (by rw [z]; rfl))]
                rw [if_neg e2] at ek
                rw [ek] at hE
                exact bn_f rfl (cr_wrong (mc := 0) rfl t3 ((hE _ rfl).go fft (by omega)))
          unfold U_X2_atom_80
          rw [c3, ctx_895 tk ht]
          by_cases h3 : tk = 3
          · refine bn_f h3 ⟨wq, rfl, cr_find (a := 2) gt.ko wt.1 hwc (by omega) rfl ?_⟩
            rw [tsA_2]
            by_cases e1 : wd B p r = isWd
            · have ei : [isWd].findIdx? (fun t => decide (wd B p r = t)) = some 0 := by rw [e1]; rfl
              rw [ei]
              rw [if_pos ⟨h3, e1⟩] at ek
              refine br_f (by decide) ⟨mc - 3, ms - 2564, ⟨by omega, by omega⟩, ?_⟩
              by_cases e6 : o = 6
              · rw [if_pos e6] at ek
                rw [ek] at hE hb1 hb2
                have hb1 : 60 * (n + 6 - k) ≤ mc + 20 := hb1
                have hb2 : 4500 * (n + 6 - k) ≤ ms + 1800 := hb2
                -- nothing behind is read
                refine cr_opens (mc := 0) gt t3 (fun _ => (hE _ rfl).go fft (by omega)) (fun z => absurd e6 z)
              · rw [if_neg e6] at ek
                have hpx : ∀ w k', rsB (AA (o + 1) r) (fun x => (.inr ((fun e => hdL (e.2 (x.1 e))), x.2) : Rs (VV × Nat))) = .inr (w, k') → r ≤ k' := by
                  intro w k' hw
                  obtain ⟨y, h1, hw⟩ := rsB_inr hw
                  have := hp _ y.1 y.2 hp3 h1
                  injection hw with hw
                  injection hw with e1 e2
                  omega
                have hb := hX ek (by omega) hp3 hpx
                have hbe : bd n r (rsB (AA (o + 1) r) (fun x => (.inr ((fun e => hdL (e.2 (x.1 e))), x.2) : Rs (VV × Nat)))) = bd n r (AA (o + 1) r) := by
                  cases AA (o + 1) r with
                  | inl z => rfl
                  | inr y => rfl
                rw [hbe] at hb
                rw [ek] at hE hK
                refine cr_looked (p := p) h3 hA hp gt c3 t3 (by omega) (by omega) (by omega) (fun z => absurd z e6) (fun _ z hz => ?_) (fun _ w k' hw u y fu zu gu vu => ?_)
                · rw [hz] at hE
                  exact (hE z rfl).go fft (by omega)
                · rw [hw] at hK
                  exact hK _ _ rfl u y (fft.trans fu) (by omega) gu (VC.ge (VC.fr (fun i _ => agr.refl u i) (fun i hi => newS_mono hi (by omega) (Nat.le_refl _)) _ _ _ vu) (by omega))
            · have ei : [isWd].findIdx? (fun t => decide (wd B p r = t)) = none := by
                rw [List.findIdx?_eq_none_iff]
                intro z hz
                rw [List.mem_singleton.mp hz]
                exact decide_eq_false e1
              rw [ei]
              exact nl (fun z => e1 z.2)
          · exact bn_t h3 (nl (fun z => h3 z.1))
        refine cr_find (a := 1) gt.ko wt.1 hwc (by omega) rfl ?_
        rw [tsA_1]
        cases ei : askWs.findIdx? (fun t => decide (wd B p r = t)) with
        | none =>
          refine br_t rfl (rest ?_)
          rw [ei]; rfl
        | some i =>
          obtain ⟨hi, -⟩ := List.findIdx?_eq_some_iff_getElem.mp ei
          have hi : i < 10 := hi
          refine br_f (fun z => nI_m1 (by omega) z.symm) (cr_has ht hi c3 (fun ha => br_f (by decide) ⟨⟨by omega, by omega⟩, by omega, st_ ?_⟩) (fun ha => br_t rfl (rest ?_)))
          · rw [ei] at ek
            have ek : pAtm B n tk (m + 1) o k = .inr ((fun e => hdL (e.1 i)), r) := by
              rw [ek]
              show (if alw tk i = true then _ else _) = _
              rw [if_pos ha]; rfl
            rw [ek] at hK
            obtain ⟨u, hu⟩ : ∃ u, u = nC t kO16 := ⟨_, rfl⟩
            rw [← hu]
            have zu : u.1 = t.1 + 1 := by rw [hu]; rfl
            have fs : FrS t u := by rw [hu]; exact (FrS.refl t).nC (by omega)
            have gu : RdC B n u r o := gt.frS fs (by omega)
            have ku : gK u t.1 = some kO16 := by rw [hu]; exact gK_n
            have hc : t.1 < CB := by omega
            refine ⟨hc, ku, st_ (hK _ _ rfl _ t.1 ((fft.trans fs.c).wI (Or.inr ⟨by omega, hc⟩)) (by show u.1 ≤ _; omega) (gu.agr (fun i hi => (agr.refl u i).wI (by omega)) (Nat.le_refl _) (by show u.1 ≤ _; omega)) (VC.ge (d := 1) ⟨⟨by omega, by show t.1 < u.1; omega⟩, Or.inr (Or.inl ⟨ku, i, hi, ha, gI_ws, rfl⟩)⟩ (by omega)))⟩
          · rw [ei]
            show alw tk i = false
            exact ha
theorem AtL.out {P : PTR} {ca za : Nat} (h : 7 ≤ o) : AtL B n tk d ca za P A o := fun _ _ _ _ _ _ g => absurd g.oo (by omega)
theorem cr_atom (ht : tk < 4) : ∀ m o, 7 ≤ m + o → AtL B n tk (3 * m + 1) 20 1800 (U_rd m).1 (pAtm B n tk m o) o
  | 0, o, h => AtL.out (by omega)
  | m + 1, o, h => cr_atom1 (m := m) (AA := pAtm B n tk m) (d := 3 * m + 1) ht (cr_atom ht m (o + 1) (by omega)) (pAtm_pr m (o + 1)) rfl
end CAu
