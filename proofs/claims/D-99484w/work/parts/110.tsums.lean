/-! PURE SIDE, the model's reader: what comes behind a part, sign by sign. -/
section TS
variable {τ0 τ : Sto} {B : Byt} {n k o bs : Nat} {C W : List Int32} {K : Sto → Prop} {x1 : Int32}
/-- no bracket closes here -/
theorem goes_122 {KI : Int32 → Sto → Prop} {h : Nat} (hT : TxT τ0 B n) (g : RQ τ0 B n τ k C W o bs) {p : Nat} (hs : skp B n k = p) (hh : 0 < h)
    (hb : bt B n p = 41 → ∀ (KB : Int32 → Sto → Prop) (τ' : Sto), RQ τ0 B n τ' p C W o bs → (∀ b, b ≠ 20 → b ≠ 23 → b ≠ 24 → KB b τ') → T_qBracket τ' KB)
    (hk : ∀ τ', RQ τ0 B n τ' p C W o bs → T_qGoesOn_122 KI τ') : T_qGoesOn_0 KI h τ := by
  obtain ⟨h, rfl⟩ : ∃ h', h = h' + 1 := ⟨h - 1, by omega⟩
  unfold T_qGoesOn_0
  refine bn_f g.bad (T_look_law hT g fun τ1 g1 => ?_)
  rw [hs] at g1 ⊢
  rw [show (41 : Int32) = nI 41 from rfl, cI_eq (bt_le hT.2.2.2.1) (by omega)]
  by_cases e : bt B n p = 41
  · refine bn_f e (hb e _ τ1 g1 fun b h1 h2 h3 => br_f h1 (hb e _ τ1 g1 fun b h1 h2 h3 => br_f h2 (hb e _ τ1 g1 fun b h1 h2 h3 => bn_t h3 (hk τ1 g1))))
  · exact bn_t e (hk τ1 g1)
theorem sgn_LD : ∀ c, c ∈ [40, 41, 42, 43, 44, 45, 47, 59, 60, 61, 62, 91, 93] → pL c = false ∧ pD c = false ∧ bl c = false := by decide
/-- the four signs are looked for -/
theorem goes_signs {KI : Int32 → Sto → Prop} (hT : TxT τ0 B n) (g : RQ τ0 B n τ k C W o bs) (hs : skp B n k = k)
    (hm : bt B n k = 42 ∨ bt B n k = 47 → ∀ τ', RQ τ0 B n τ' (k + 1) C W o bs → T_qGoesOn_140 KI τ')
    (ha : bt B n k = 43 ∨ bt B n k = 45 → ∀ τ', RQ τ0 B n τ' (k + 1) C W o bs → T_qGoesOn_225 KI τ')
    (hz : bt B n k ≠ 42 → bt B n k ≠ 43 → bt B n k ≠ 45 → bt B n k ≠ 47 → ∀ τ', RQ τ0 B n τ' k C W o bs → T_qBracket τ' (fun r35 τ34 => (((r35 = 21 → (T_qGoesOn_326 KI τ34)) ∧ (¬ r35 = 21 → (T_qBracket τ34 (fun r37 τ36 => (((¬ r37 = 22 → (T_qBracket τ36 (fun r39 τ38 => (((r39 = (-1) → (KI 0 τ38)) ∧ (¬ r39 = (-1) → (((¬ (τ38.1 0 5) = 0 → (KI 0 τ38)) ∧ ((τ38.1 0 5) = 0 → (T_fail τ38 1 (τ38.1 0 2) (fun τ40 => (KI 0 τ40)))))))))))) ∧ (r37 = 22 → (T_qGoesOn_326 KI τ36))))))))))) : T_qGoesOn_122 KI τ := by
  unfold T_qGoesOn_122
  refine T_takesSign_law hT g (c := 42) rfl (by omega) (by decide) (by decide) (fun e τ1 g1 => ?_) (fun e1 τ1 g1 => ?_)
  · rw [hs] at e g1
    exact bn_t (by decide) (hm (Or.inl e) τ1 g1)
  rw [hs] at e1 g1
  refine bn_f rfl (T_takesSign_law hT g1 (c := 47) rfl (by omega) (by decide) (by decide) (fun e τ2 g2 => ?_) (fun e2 τ2 g2 => ?_))
  · rw [hs] at e g2
    exact br_f (by decide) (hm (Or.inr e) τ2 g2)
  rw [hs] at e2 g2
  refine br_t rfl (T_takesSign_law hT g2 (c := 43) rfl (by omega) (by decide) (by decide) (fun e τ3 g3 => ?_) (fun e3 τ3 g3 => ?_))
  · rw [hs] at e g3
    exact bn_t (by decide) (ha (Or.inl e) τ3 g3)
  rw [hs] at e3 g3
  refine bn_f rfl (T_takesSign_law hT g3 (c := 45) rfl (by omega) (by decide) (by decide) (fun e τ4 g4 => ?_) (fun e4 τ4 g4 => ?_))
  · rw [hs] at e g4
    exact br_f (by decide) (ha (Or.inr e) τ4 g4)
  rw [hs] at e4 g4
  exact br_t rfl (hz e1 e3 e4 e2 τ4 g4)
/-- what waits: operators over the base or over a bracket -/
def baseB (bs : Nat) (r : List Int32) : Prop := bs = r.length ∨ ∃ b r', r = b :: r' ∧ isBr b = true ∧ bs ≤ r'.length
theorem baseB.le {r : List Int32} (h : baseB bs r) : bs ≤ r.length := by
  rcases h with h | ⟨b, r', rfl, -, h⟩
  · omega
  · rw [List.length_cons]; omega
/-- a product goes on -/
theorem goG_mul {pend : List Int32} {c : Nat} (hT : TxT τ0 B n) {p : Nat} (hs : skp B n k = p) (hc : bt B n p = c) (hcc : c = 42 ∨ c = 47) (hp : ∀ y, y ∈ pend → mulI y) (hpl : pend.length ≤ 40) (hW : topN mulI W) (hz : C.length + (pend ++ W).length ≤ p)
    (h : GoP τ0 B n bs K x1 (p + 1) (C ++ pend) (opC c :: W) o) : GoG τ0 B n bs K x1 k C (pend ++ W) o := by
  have hn := hT.1
  have hp2 : skp B n p = p := by rw [← hs, skp_idem]
  have hge : k ≤ p := by rw [← hs]; exact skp_ge B n k
  intro f h' τ hf hh g
  have hpn : p ≤ n := by rw [← hs]; exact skp_le g.kn
  have hk : p < n := bt_in hc (by omega)
  rw [List.length_append] at hz
  refine goes_122 hT g hs (by omega) (fun e => by omega) fun τ1 g1 => goes_signs hT g1 hp2 (fun _ τ2 g2 => ?_) (fun e => by omega) (fun e1 e2 e3 e4 => by omega)
  unfold T_qGoesOn_140
  rw [g2.at_, nI_pred]
  refine ⟨vi_ (by omega) (by omega), ?_⟩
  rw [nI_clamp (by omega), g2.tape hT hk]
  have hB : B p = c := by rw [← hc, bt_lt hk]
  rw [hB]
  obtain ⟨f, rfl⟩ : ∃ f', f = f' + 1 := ⟨f - 1, by omega⟩
  have fin : ∀ x, x = opC c → ∃ n162, T_qGoesOn_162 (GKs K x1 (f + 1)) x n162 τ2 := by
    intro x hx
    refine ⟨pend.length + 1, T_qGoesOn_162_law hW (by omega) pend C _ τ2 hp (by omega) hpl (by omega) g2 fun τ3 g3 => ?_⟩
    refine br_f (by decide) ?_
    unfold T_qSums_15
    refine br_f (by decide) (bn_f g3.bad ⟨n - (p + 1) + 2, ?_⟩)
    rw [hx] at g3
    exact h f _ τ3 (by omega) (by omega) g3
  rcases hcc with rfl | rfl
  · exact bn_f rfl (fin 3 rfl)
  · exact bn_t (by decide) (fin 4 rfl)
/-- a sum goes on -/
theorem goG_add {pend : List Int32} {c : Nat} (hT : TxT τ0 B n) {p : Nat} (hs : skp B n k = p) (hc : bt B n p = c) (hcc : c = 43 ∨ c = 45) (hp : ∀ y, y ∈ pend → opI y) (hpl : pend.length ≤ 40) (hW : topN opI W) (hz : C.length + (pend ++ W).length ≤ p)
    (h : GoP τ0 B n bs K x1 (p + 1) (C ++ pend) (opC c :: W) o) : GoG τ0 B n bs K x1 k C (pend ++ W) o := by
  have hn := hT.1
  have hp2 : skp B n p = p := by rw [← hs, skp_idem]
  have hge : k ≤ p := by rw [← hs]; exact skp_ge B n k
  intro f h' τ hf hh g
  have hpn : p ≤ n := by rw [← hs]; exact skp_le g.kn
  have hk : p < n := bt_in hc (by omega)
  rw [List.length_append] at hz
  refine goes_122 hT g hs (by omega) (fun e => by omega) fun τ1 g1 => goes_signs hT g1 hp2 (fun e => by omega) (fun _ τ2 g2 => ?_) (fun e1 e2 e3 e4 => by omega)
  unfold T_qGoesOn_225
  rw [g2.at_, nI_pred]
  refine ⟨vi_ (by omega) (by omega), ?_⟩
  rw [nI_clamp (by omega), g2.tape hT hk]
  have hB : B p = c := by rw [← hc, bt_lt hk]
  rw [hB]
  obtain ⟨f, rfl⟩ : ∃ f', f = f' + 1 := ⟨f - 1, by omega⟩
  have fin : ∀ x, x = opC c → ∃ n247, T_qGoesOn_247 (GKs K x1 (f + 1)) x n247 τ2 := by
    intro x hx
    refine ⟨pend.length + 1, T_qGoesOn_247_law hW (by omega) pend C _ τ2 hp (by omega) hpl (by omega) g2 fun τ3 g3 => ?_⟩
    refine br_f (by decide) ?_
    unfold T_qSums_15
    refine br_f (by decide) (bn_f g3.bad ⟨n - (p + 1) + 2, ?_⟩)
    rw [hx] at g3
    exact h f _ τ3 (by omega) (by omega) g3
  rcases hcc with rfl | rfl
  · exact bn_f rfl (fin 1 rfl)
  · exact bn_t (by decide) (fin 2 rfl)
/-- the code of a bracket that closes -/
def brC (b : Int32) : List Int32 := if b = 20 then [] else if b = 23 then [5] else [6]
/-- a bracket closes -/
theorem goG_close {pend : List Int32} {b : Int32} (hT : TxT τ0 B n) {p : Nat} (hs : skp B n k = p) (hc : bt B n p = 41) (hb : b = 20 ∨ b = 23 ∨ b = 24) (hp : ∀ y, y ∈ pend → opI y) (hW : bs ≤ W.length) (hz : C.length + (pend ++ b :: W).length ≤ p)
    (h : GoE τ0 B n bs K x1 (p + 1) (C ++ pend ++ brC b) W o) : GoG τ0 B n bs K x1 k C (pend ++ b :: W) (o + 1) := by
  have hn := hT.1
  have hp2 : skp B n p = p := by rw [← hs, skp_idem]
  have hge : k ≤ p := by rw [← hs]; exact skp_ge B n k
  intro f h' τ hf hh g
  have hpn : p ≤ n := by rw [← hs]; exact skp_le g.kn
  have hk : p < n := bt_in hc (by omega)
  obtain ⟨h', rfl⟩ : ∃ h'', h' = h'' + 1 := ⟨h' - 1, by omega⟩
  rw [List.length_append, List.length_cons] at hz
  have hll : (pend ++ b :: W).length < 1700 := by rw [List.length_append, List.length_cons]; omega
  have hbr : isBr b = true := by rcases hb with rfl | rfl | rfl <;> decide
  have hpx : ∀ y, y ∈ pend → isBr y = false := fun y hy => (hp y hy).br
  have hB : B p = 41 := by rw [← hc, bt_lt hk]
  unfold T_qGoesOn_0
  refine bn_f g.bad (T_look_law hT g fun τ1 g1 => ?_)
  rw [hs] at g1 ⊢
  rw [hc]
  refine bn_f rfl ?_
  have fin : T_qGoesOn_43 (GKs K x1 f) (T_qGoesOn_0 (GKs K x1 f) h') τ1 := by
    refine st_ ?_
    rw [g1.at_, nI_1]
    have g2 := g1.go (E' := EnO B n (p + 1)) (k' := p + 1) (by omega) (g1.en.sign hn hk (by rw [hB]; decide) (by rw [hB]; decide))
    refine T_qDropsToBracket_law (Or.inr ⟨b, W, rfl, hbr, hW⟩) g2 hll (by omega) hpx fun τ3 g3 => st_ (st_ ?_)
    rw [show τ3.1 0 94 - 1 = nI W.length by rw [g3.wl, List.length_cons, nI_pred]]
    have g4 := g3.pop
    rw [g4.op, nI_pred]
    have g5 := g4.opn o
    rw [g5.wl]
    refine ⟨vi_ (by omega) (by omega), ?_⟩
    rw [nI_clamp (by omega)]
    have et : (sI (sI τ3 0 94 (nI W.length)) 0 95 (nI o)).1 94 W.length = b := by
      rw [sI_neI (by simp), sI_neI (by simp)]; exact g3.top
    rw [et]
    have eF : ∀ (τ' : Sto) (C' W' : List Int32) (o' : Nat), RQ τ0 B n τ' (p + 1) C' W' o' bs → (∀ h, n - (p + 1) < h → T_qGoesOn_0 (GKs K x1 f) h τ') → T_qGoesOn_0 (GKs K x1 f) h' τ' := fun τ' _ _ _ _ hG => hG h' (by omega)
    rcases hb with rfl | rfl | rfl
    · refine br_t rfl (h f _ _ (by omega) eF ?_)
      rw [show C ++ pend ++ brC 20 = C ++ pend from List.append_nil _]
      exact g5
    · refine br_f (by decide) ⟨vi_ (by omega) (by omega), bn_f rfl (T_qCode_law g5 (by rw [List.length_append]; omega) 5 fun τ6 g6 => h f _ τ6 (by omega) eF g6)⟩
    · refine br_f (by decide) ⟨vi_ (by omega) (by omega), bn_t (by decide) (T_qCode_law g5 (by rw [List.length_append]; omega) 6 fun τ6 g6 => h f _ τ6 (by omega) eF g6)⟩
  have hq : ∀ KB : Int32 → Sto → Prop, KB b τ1 → T_qBracket τ1 KB := fun KB hKB => T_qBracket_law g1 hll hbr hW hpx hKB
  rcases hb with rfl | rfl | rfl
  · exact hq _ (br_t rfl fin)
  · exact hq _ (br_f (by decide) (hq _ (br_t rfl fin)))
  · exact hq _ (br_f (by decide) (hq _ (br_f (by decide) (hq _ (bn_f rfl fin)))))
/-- the second of two is asked -/
theorem goG_comma {pend : List Int32} {b : Int32} (hT : TxT τ0 B n) {p : Nat} (hs : skp B n k = p) (hc : bt B n p = 44) (hb : b = 21 ∨ b = 22) (hp : ∀ y, y ∈ pend → opI y) (hW : bs ≤ W.length) (hz : C.length + (pend ++ b :: W).length ≤ p)
    (h : GoP τ0 B n bs K x1 (p + 1) (C ++ pend) ((b + 2) :: W) o) : GoG τ0 B n bs K x1 k C (pend ++ b :: W) o := by
  have hn := hT.1
  have hp2 : skp B n p = p := by rw [← hs, skp_idem]
  have hge : k ≤ p := by rw [← hs]; exact skp_ge B n k
  intro f h' τ hf hh g
  have hpn : p ≤ n := by rw [← hs]; exact skp_le g.kn
  have hk : p < n := bt_in hc (by omega)
  rw [List.length_append, List.length_cons] at hz
  have hll : (pend ++ b :: W).length < 1700 := by rw [List.length_append, List.length_cons]; omega
  have hbr : isBr b = true := by rcases hb with rfl | rfl <;> decide
  have hpx : ∀ y, y ∈ pend → isBr y = false := fun y hy => (hp y hy).br
  refine goes_122 hT g hs (by omega) (fun e => by omega) fun τ1 g1 => goes_signs hT g1 hp2 (fun e => by omega) (fun e => by omega) (fun e1 e2 e3 e4 τ2 g2 => ?_)
  have hq : ∀ KB : Int32 → Sto → Prop, KB b τ2 → T_qBracket τ2 KB := fun KB hKB => T_qBracket_law g2 hll hbr hW hpx hKB
  have fin : T_qGoesOn_326 (GKs K x1 f) τ2 := by
    unfold T_qGoesOn_326
    refine T_asksSign_law hT g2 (c := 44) rfl (by omega) (by decide) (by decide) (fun q e τ3 g3 => ?_) (fun kd pl e => by simp [pMust, hp2, hc] at e)
    simp only [pMust, hp2, hc, if_true] at e
    have e := Sum.inr.inj e
    subst e
    refine br_t g3.bad (T_qDropsToBracket_law (Or.inr ⟨b, W, rfl, hbr, hW⟩) g3 hll (by omega) hpx fun τ4 g4 => ?_)
    rw [g4.wl, List.length_cons, nI_pred, nI_clamp (by omega), g4.top]
    refine ⟨vi_ (by omega) (by omega), vi_ (by omega) (by omega), st_ (br_f (by decide) ?_)⟩
    obtain ⟨f, rfl⟩ : ∃ f', f = f' + 1 := ⟨f - 1, by omega⟩
    have g5 := g4.swap (b + 2)
    unfold T_qSums_15
    exact br_f (by decide) (bn_f g5.bad ⟨n - (p + 1) + 2, h f _ _ (by omega) (by omega) g5⟩)
  rcases hb with rfl | rfl
  · exact hq _ (br_t rfl fin)
  · exact hq _ (br_f (by decide) (hq _ (bn_f rfl fin)))
/-- a bracket stays open -/
theorem goG_fail {pend : List Int32} {b : Int32} (hT : TxT τ0 B n) {p : Nat} (hs : skp B n k = p) (hb : isBr b = true) (hc : ¬ (bt B n p = 41 ∧ (b = 20 ∨ b = 23 ∨ b = 24))) (hc2 : ¬ (bt B n p = 44 ∧ (b = 21 ∨ b = 22))) (hops : bt B n p ≠ 42 ∧ bt B n p ≠ 43 ∧ bt B n p ≠ 45 ∧ bt B n p ≠ 47) (hp : ∀ y, y ∈ pend → opI y) (hW : bs ≤ W.length) (hz : C.length + (pend ++ b :: W).length ≤ p)
    (hF : FFs τ0 1601 K 1 p) : GoG τ0 B n bs K x1 k C (pend ++ b :: W) o := by
  have hn := hT.1
  have hp2 : skp B n p = p := by rw [← hs, skp_idem]
  have hge : k ≤ p := by rw [← hs]; exact skp_ge B n k
  intro f h' τ hf hh g
  have hpn : p ≤ n := by rw [← hs]; exact skp_le g.kn
  have hkn := g.kn
  rw [List.length_append, List.length_cons] at hz
  have hll : (pend ++ b :: W).length < 1700 := by rw [List.length_append, List.length_cons]; omega
  have hpx : ∀ y, y ∈ pend → isBr y = false := fun y hy => (hp y hy).br
  refine goes_122 hT g hs (by omega) (fun e KB τ' g' hKB => T_qBracket_law g' hll hb hW hpx (hKB b (fun z => hc ⟨e, Or.inl z⟩) (fun z => hc ⟨e, Or.inr (Or.inl z)⟩) (fun z => hc ⟨e, Or.inr (Or.inr z)⟩))) fun τ1 g1 => goes_signs hT g1 hp2 (fun e => by omega) (fun e => by omega) (fun e1 e2 e3 e4 τ2 g2 => ?_)
  have hq : ∀ KB : Int32 → Sto → Prop, KB b τ2 → T_qBracket τ2 KB := fun KB hKB => T_qBracket_law g2 hll hb hW hpx hKB
  have fin : b = 21 ∨ b = 22 → T_qGoesOn_326 (GKs K x1 f) τ2 := by
    intro hbb
    unfold T_qGoesOn_326
    refine T_asksSign_law hT g2 (c := 44) rfl (by omega) (by decide) (by decide) (fun q e => ?_) (fun kd pl e τ3 g3 => ?_)
    · exfalso
      simp only [pMust, hp2] at e
      by_cases h44 : bt B n p = 44
      · exact hc2 ⟨h44, hbb⟩
      · rw [if_neg h44] at e; cases e
    · simp only [pMust, hp2] at e
      rw [if_neg (fun z => hc2 ⟨z, hbb⟩)] at e
      have e := Sum.inl.inj e
      obtain ⟨rfl, rfl⟩ := Prod.mk.inj e
      exact br_f g3.bad (GKs_bad hF (g3.mono (by omega)) (by omega) 0)
  by_cases h21 : b = 21
  · exact hq _ (br_t h21 (fin (Or.inl h21)))
  · refine hq _ (br_f h21 (hq _ ?_))
    by_cases h22 : b = 22
    · exact bn_f h22 (fin (Or.inr h22))
    · refine bn_t h22 (hq _ (br_f ?_ (bn_f g2.bad (T_fail_law g2 (kd := 1) rfl g2.at_ (by omega) (by omega) fun τ3 g3 => GKs_bad hF (g3.mono (by omega)) (by omega) 0))))
      intro z; rw [z] at hb; exact absurd hb (by decide)
/-- the sum ends -/
theorem goG_end {pend : List Int32} (hT : TxT τ0 B n) {p : Nat} (hs : skp B n k = p) (hops : bt B n p ≠ 42 ∧ bt B n p ≠ 43 ∧ bt B n p ≠ 45 ∧ bt B n p ≠ 47) (hp : ∀ y, y ∈ pend → opI y) (hW : bs = W.length) (hz : C.length + (pend ++ W).length ≤ p) {b0 : Nat} (hx1 : x1 = nI b0)
    (hk : ∀ τ', RQ τ0 B n τ' p (C ++ pend) W o b0 → K τ') : GoG τ0 B n bs K x1 k C (pend ++ W) o := by
  have hn := hT.1
  have hp2 : skp B n p = p := by rw [← hs, skp_idem]
  have hge : k ≤ p := by rw [← hs]; exact skp_ge B n k
  intro f h' τ hf hh g
  have hpn : p ≤ n := by rw [← hs]; exact skp_le g.kn
  have hkn := g.kn
  rw [List.length_append] at hz
  have hll : (pend ++ W).length < 1700 := by rw [List.length_append]; omega
  have hpx : ∀ y, y ∈ pend → isBr y = false := fun y hy => (hp y hy).br
  refine goes_122 hT g hs (by omega) (fun e KB τ' g' hKB => T_qBracket_none g' hll hW hpx (hKB (-1) (by decide) (by decide) (by decide))) fun τ1 g1 => goes_signs hT g1 hp2 (fun e => by omega) (fun e => by omega) (fun e1 e2 e3 e4 τ2 g2 => ?_)
  have hq : ∀ KB : Int32 → Sto → Prop, KB (-1) τ2 → T_qBracket τ2 KB := fun KB hKB => T_qBracket_none g2 hll hW hpx hKB
  refine hq _ (br_f (by decide) (hq _ (bn_t (by decide) (hq _ (br_t rfl ?_)))))
  obtain ⟨f, rfl⟩ : ∃ f', f = f' + 1 := ⟨f - 1, by omega⟩
  refine br_t rfl ?_
  unfold T_qSums_15
  refine br_t rfl ⟨pend.length + 1, ?_⟩
  -- all that waits over the base is told
  have drop : ∀ (pend C : List Int32) (f : Nat) (τ : Sto), pend.length < f → pend.length + W.length < 1700 → C.length + pend.length ≤ 1600 → RQ τ0 B n τ p C (pend ++ W) o bs → (∀ τ', RQ τ0 B n τ' p (C ++ pend) W o b0 → K τ') → T_qSums_53 K x1 f τ := by
    intro pend
    induction pend with
    | nil =>
      intro C f τ hf hl hc h hk
      obtain ⟨f, rfl⟩ : ∃ f', f = f' + 1 := ⟨f - 1, by omega⟩
      rw [List.nil_append] at h
      unfold T_qSums_53
      refine bn_f h.bad ?_
      rw [h.wl, h.ba]
      refine br_t (nI_le (by omega) (by omega)) (st_ (hk _ ?_))
      rw [List.append_nil, hx1]
      exact h.bas b0
    | cons y pend ih =>
      intro C f τ hf hl hc h hk
      obtain ⟨f, rfl⟩ : ∃ f', f = f' + 1 := ⟨f - 1, by omega⟩
      rw [List.cons_append] at h
      rw [List.length_cons] at hf hl hc
      have hll : (pend ++ W).length = pend.length + W.length := List.length_append
      unfold T_qSums_53
      refine bn_f h.bad ?_
      rw [h.wl, h.ba, List.length_cons]
      refine br_f (nI_ge (by omega) (by omega)) (T_qDrops_law h (by omega) (by omega) fun τ' g => ?_)
      refine ih (C ++ [y]) f τ' (by omega) (by omega) (by simp; omega) g (fun τ'' g' => hk τ'' ?_)
      rw [List.append_assoc] at g'
      exact g'
  exact drop pend C _ τ2 (by omega) (by omega) (by omega) g2 hk
end TS
