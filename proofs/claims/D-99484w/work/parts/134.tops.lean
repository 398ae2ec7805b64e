/-! PURE SIDE: the simple operations, and the model's. -/
def inR (x : Int32) (lo hi : Int) : Bool := decide (lo ≤ x.toInt ∧ x.toInt ≤ hi)
def ix (x : Int32) : Nat := x.toInt.toNat
theorem inR_ix {x : Int32} {n : Nat} (h : inR x 0 ((n : Int) - 1) = true) (hn : n < 2 ^ 31) : x = nI (ix x) ∧ ix x < n := by
  unfold inR at h
  rw [decide_eq_true_eq] at h
  unfold ix
  refine ⟨?_, by omega⟩
  apply Int32.toInt_inj.mp
  rw [nI_toInt (by omega)]; omega
theorem inR_of {t n : Nat} (h : t < n) (hn : n < 2 ^ 31) : inR (nI t) 0 ((n : Int) - 1) = true ∧ ix (nI t) = t := by
  unfold inR ix
  rw [nI_toInt (by omega), decide_eq_true_eq]
  omega
theorem T_isInI {τ : Sto} {K : Int32 → Sto → Prop} {x : Int32} {lo hi : Int} {b c : Int64} (hb : b.toInt = lo) (hc : c.toInt = hi) (hk : K (b1 (inR x lo hi)) τ) : T_isIn τ x.toInt64 b c K := by
  refine T_isIn_law ?_
  have : decide (b ≤ x.toInt64 ∧ x.toInt64 ≤ c) = inR x lo hi := by
    unfold inR
    apply decide_eq_decide.mpr
    rw [Int64.le_iff_toInt_le, Int64.le_iff_toInt_le, Int32.toInt_toInt64, hb, hc]
  rw [this]
  exact hk
theorem pred_int {n : Nat} (h : n < 2 ^ 31) : (nI n - 1).toInt64.toInt = (n : Int) - 1 := by
  rw [Int32.toInt_toInt64]
  cases n with
  | zero => rfl
  | succ n => rw [nI_pred, nI_toInt (by omega)]; omega
section TOp
variable {a : AS} {τ τ' : Sto} {K : Int32 → Sto → Prop}
theorem StOK.bd {s : St} (h : StOK s) : bdS s.1 := by
  obtain ⟨h1, h2, h3⟩ := h
  refine ⟨by omega, fun i h0 hi => ?_, fun t ht => (h2 t ht).2.2.2.2⟩
  have ht := h2 ((i - 1) / 5) (by omega)
  have : i = 1 + 5 * ((i - 1) / 5) ∨ i = 2 + 5 * ((i - 1) / 5) ∨ i = 3 + 5 * ((i - 1) / 5) ∨ i = 4 + 5 * ((i - 1) / 5) ∨ i = 5 + 5 * ((i - 1) / 5) := by omega
  rcases this with e | e | e | e | e <;> rw [e] <;> omega
theorem RT.ev (h : RT a τ) : EvC (aI a) (-1, 0) (aS a).1 τ := by
  obtain ⟨-, -, -, ⟨d1, d2, d3⟩, ⟨s1, s2⟩, -, -, -, ⟨f1, -⟩⟩ := h
  exact ⟨d1, d2, fun i hi => by have := s2.1 i hi; rw [Nat.zero_add] at this; exact this, s1.bd, f1, fun z => absurd rfl z⟩
theorem RT.dc (h : RT a τ) : DC (aI a) (-1, 0) false (aS a) τ := by
  have hE := h.ev
  obtain ⟨-, -, -, -, ⟨s1, s2⟩, -, -, -, ⟨-, f2, -⟩⟩ := h
  refine ⟨hE, f2, s1.2.2, fun _ => ⟨?_, fun j hj => ?_⟩⟩
  · have := s2.2.1; rw [Nat.zero_add] at this; exact this
  · have := s2.2.2 j hj; rw [Nat.zero_add] at this; exact this
theorem RT.frE (h : RT a τ) (f : FrE τ τ') : RT a τ' := by
  refine h.fr ⟨fun i j hij => f.1 i j (fun z => hij ?_), fun i j hij => f.2 i j (fun z => hij (Or.inr (Or.inl z))), ?_⟩
  · obtain ⟨rfl, h | h | h⟩ := z <;> subst h <;> simp [scrT]
  · obtain ⟨c, hc, hc2⟩ := h.2.2.2.2.2.2.2.2.2.2
    exact ⟨c, hc, by rw [f.1 0 92 (by omega)]; exact hc2⟩
/-- one more is refused -/
def aRef (a : AS) (k : Nat) : AS := (aTp a, aTn a, aFk a, aFp a, fu_ (aRf a) k (aRf a k + 1), aI a, aS a, aU a, aSd a, aOu a, aOn a)
theorem RT.ref (h : RT a τ) {k : Nat} (hk : k < 6) : RT (aRef a k) (sI τ 10 k (τ.1 10 k + 1)) := by
  obtain ⟨⟨a1, a2, a3, a4⟩, ⟨b1, b2, b3⟩, c, ⟨d1, d2, d3⟩, ⟨s1, s2⟩, ⟨u1, u2, nw, u3, u4, u5⟩, ⟨g1, g2⟩, ⟨o1, o2, o3⟩, ⟨f1, f2, cc, f3, f4⟩⟩ := h
  have e : ∀ i j, i ≠ 10 → (sI τ 10 k (τ.1 10 k + 1)).1 i j = τ.1 i j := fun i j hi => sI_neI hi
  refine ⟨⟨a1, by rw [e _ _ (by omega)]; exact a2, fun i hi => by rw [e _ _ (by omega)]; exact a3 i hi, a4⟩, ⟨by rw [e _ _ (by omega)]; exact b1, by rw [e _ _ (by omega)]; exact b2, fun i hi => ?_⟩, fun p hp i hi => ?_, ⟨d1, d2.congr (fun i j hi => e i j (by omega)) (fun _ => rfl), by rw [e _ _ (by omega)]; exact d3⟩, ⟨s1, s2.mv s1 (fun j hj => e _ _ (by omega))⟩, ⟨u1, by rw [e _ _ (by omega)]; exact u2, nw, u3, by rw [e _ _ (by omega)]; exact u4, fun j s hj => ⟨(u5 j s hj).1, (u5 j s hj).2.mv (u5 j s hj).1 (fun j hj => e _ _ (by omega))⟩⟩, ⟨g1, g2⟩, ⟨o1, by rw [e _ _ (by omega)]; exact o2, fun i hi => ⟨by rw [e _ _ (by omega)]; exact (o3 i hi).1, (o3 i hi).2⟩⟩, ⟨by rw [e _ _ (by omega)]; exact f1, by rw [e _ _ (by omega)]; exact f2, cc, f3, by rw [e _ _ (by omega)]; exact f4⟩⟩
  · show _ = fu_ (aRf a) k (aRf a k + 1) i
    by_cases h1 : i = k
    · subst h1; rw [sI_same, fu_same, b3 i hi]
    · rw [sI_ne (by omega), fu_ne h1]; exact b3 i hi
  · have : ∀ p, p ∈ wTab → p.1 ≠ 10 := by decide
    rw [e _ _ (this p hp)]; exact c p hp i hi
theorem T_isThing_law {x : Int32} (h : RT a τ) (hk : K (b1 (inR x 0 ((iC (aI a) 0 : Int) - 1))) τ) : T_isThing τ x K := by
  have hc := h.ev.c
  refine T_thingMany_law h.ev (T_isInI (lo := 0) rfl (pred_int (by omega)) ⟨?_, hk⟩)
  cases inR x 0 ((iC (aI a) 0 : Int) - 1)
  · exact Or.inl rfl
  · exact Or.inr rfl
theorem T_isMender_law {x : Int32} (h : RT a τ) (hk : K (b1 (inR x 0 ((iC (aI a) 1 : Int) - 1))) τ) : T_isMender τ x K := by
  have hc := h.ev.c
  refine T_menderMany_law h.ev (T_isInI (lo := 0) rfl (pred_int (by omega)) ⟨?_, hk⟩)
  cases inR x 0 ((iC (aI a) 1 : Int) - 1)
  · exact Or.inl rfl
  · exact Or.inr rfl
def isTh (a : AS) (x : Int32) : Bool := inR x 0 ((iC (aI a) 0 : Int) - 1)
def isMe (a : AS) (x : Int32) : Bool := inR x 0 ((iC (aI a) 1 : Int) - 1)
def isTr (a : AS) (x : Int32) : Bool := inR x 0 ((iC (aI a) 2 : Int) - 1)
-- the operations that only tell
def sp_fault (a : AS) (x : Int32) : Int32 := if x = 0 then aFk a else if x = 1 then aFp a else -1
def stn (a : AS) : Nat := setN (spStands (aI a) (-1, 0) (aS a).1) (iC (aI a) 0)
def areN (a : AS) (k : Nat) : Nat := setN (fun t => decide ((aS a).1 (1 + 5 * t) = k)) (iC (aI a) 0)
def sp_has (a : AS) (x : Int32) : Int32 :=
  if x = 0 then nI (iC (aI a) 0) else if x = 1 then nI (iC (aI a) 1) else if x = 2 then nI (iC (aI a) 2) else if x = 3 then nI ((aS a).1 0) else if x = 4 then nI (bcN (areN a 1)) else if x = 5 then nI (bcN (areN a 2))
  else if x = 6 then nI (bcN (stn a)) else if x = 7 then nI (bcN (setN (fun t => decide ((aS a).1 (5 + 5 * t) = 1)) (iC (aI a) 0))) else if x = 8 then nI (useS (aI a) (stn a) (iC (aI a) 0)) else if x = 9 then nI (aS a).2.1 else if x = 10 then nI (aU a).length else -1
def sp_thing (a : AS) (x y : Int32) : Int32 := if isTh a x then (if inR y 0 2 then nI (iX (aI a) (3 * ix x + ix y)) else if inR y 3 7 then nI ((aS a).1 (1 + 5 * ix x + (ix y - 3))) else if y = 8 then b1 (spStands (aI a) (-1, 0) (aS a).1 (ix x)) else -1) else -1
def sp_mender (a : AS) (x y : Int32) : Int32 := if isMe a x && inR y 0 1 then nI (iX (aI a) (24 + 2 * ix x + ix y)) else -1
def sp_takes (a : AS) (x y : Int32) : Int32 := if isTh a x && isMe a y then nI (spTakes (aI a) (-1, 0) (aS a).1 (ix x) (ix y)) else -1
def sp_fine (a : AS) (x y : Int32) : Int32 := if isTh a x && isMe a y then nI (spFine (aI a) (-1, 0) (aS a).1 (ix x) (ix y)) else -1
def sp_trial (a : AS) (x y : Int32) : Int32 := if isTr a x && isTh a y then b1 (spTrial (aI a) (aS a).1 (ix x) (ix y)) else -1
def sp_kept (a : AS) (x y : Int32) : Int32 := if inR x 0 (((aS a).2.1 : Int) - 1) && inR y 0 2 then nI ((aS a).2.2 (3 * ix x + ix y)) else -1
def sp_status (a : AS) (x : Int32) : Int32 := if inR x 0 5 then aRf a (ix x) else -1
def sp_octet (a : AS) (x : Int32) : Int32 := if inR x 0 ((aOn a : Int) - 1) then nI (aOu a (ix x)) else -1
theorem T_fault_law {x : Int32} (h : RT a τ) (hk : K (sp_fault a x) τ) : T_fault τ x K := by
  unfold T_fault
  unfold sp_fault at hk
  rw [h.2.1.1, h.2.1.2.1]
  by_cases c0 : x = 0
  · rw [if_pos c0] at hk; exact bn_f c0 hk
  · rw [if_neg c0] at hk
    refine bn_t c0 ?_
    by_cases c1 : x = 1
    · rw [if_pos c1] at hk; exact bn_f c1 hk
    · rw [if_neg c1] at hk; exact bn_t c1 hk
theorem T_status_law {x : Int32} (h : RT a τ) (hk : K (sp_status a x) τ) : T_status τ x K := by
  unfold sp_status at hk
  refine T_isInI (lo := 0) (hi := 5) rfl rfl ?_
  cases e : inR x 0 5 with
  | false => rw [e] at hk; exact br_t rfl hk
  | true =>
    rw [e] at hk
    obtain ⟨q1, q2⟩ := inR_ix (n := 6) e (by omega)
    refine br_f (by decide) ?_
    rw [q1, nI_clamp (by omega), h.2.1.2.2 _ q2]
    exact ⟨vi_ q2 (by omega), hk⟩
theorem T_octet_law {x : Int32} (h : RT a τ) (hk : K (sp_octet a x) τ) : T_octet τ x K := by
  obtain ⟨o1, o2, o3⟩ := h.2.2.2.2.2.2.2.1
  unfold sp_octet at hk
  unfold T_octet
  rw [o2]
  cases e : inR x 0 ((aOn a : Int) - 1) with
  | true =>
    rw [e] at hk
    obtain ⟨q1, q2⟩ := inR_ix e (by omega)
    rw [q1, nI_clamp (by omega), (o3 _ q2).1]
    exact br_f (nI_pos (by omega)) (br_f (nI_ge q2 (by omega)) ⟨vi_ (by omega) (by omega), hk⟩)
  | false =>
    rw [e] at hk
    unfold inR at e
    rw [decide_eq_false_iff_not] at e
    by_cases c : x < 0
    · exact br_t c hk
    · refine br_f c (br_t ?_ hk)
      rw [Int32.le_iff_toInt_le, nI_toInt (by omega)]
      rw [Int32.lt_iff_toInt_lt, show (0 : Int32).toInt = 0 from rfl] at c
      omega
theorem T_kept_law {x y : Int32} (h : RT a τ) (hk : K (sp_kept a x y) τ) : T_kept τ x y K := by
  obtain ⟨s1, s2⟩ := h.2.2.2.2.1
  have hk50 := s1.2.2
  have h41 := s2.2.1
  rw [Nat.zero_add] at h41
  unfold sp_kept at hk
  refine ⟨vi_ (i := 41) (by omega) (by omega), ?_⟩
  rw [show τ.1 52 (Int32.toNatClampNeg 41) = nI (aS a).2.1 from h41]
  refine T_isInI (lo := 0) rfl (pred_int (by omega)) ?_
  cases e : inR x 0 (((aS a).2.1 : Int) - 1) with
  | false => rw [e] at hk; exact br_t rfl hk
  | true =>
    rw [e, Bool.true_and] at hk
    obtain ⟨q1, q2⟩ := inR_ix e (by omega)
    refine br_f (by decide) (T_isInI (lo := 0) (hi := 2) rfl rfl ?_)
    cases e2 : inR y 0 2 with
    | false => rw [e2] at hk; exact br_t rfl hk
    | true =>
      rw [e2] at hk
      obtain ⟨p1, p2⟩ := inR_ix (n := 3) e2 (by omega)
      refine br_f (by decide) ?_
      rw [q1, p1, show (42 : Int32) + 3 * nI (ix x) = nI (42 + 3 * ix x) from i3 _ 42, nI_add, nI_clamp (by omega)]
      refine ⟨vi_ (by omega) (by omega), ?_⟩
      have := s2.2.2 (3 * ix x + ix y) (by omega)
      rw [Nat.zero_add] at this
      rw [show 42 + 3 * ix x + ix y = 42 + (3 * ix x + ix y) by omega, this]
      exact hk
theorem T_mender_law {x y : Int32} (h : RT a τ) (hk : K (sp_mender a x y) τ) : T_mender τ x y K := by
  have hc := h.ev.c
  unfold sp_mender isMe at hk
  refine T_isMender_law h ?_
  cases e : inR x 0 ((iC (aI a) 1 : Int) - 1) with
  | false => rw [e] at hk; exact br_t rfl hk
  | true =>
    rw [e, Bool.true_and] at hk
    obtain ⟨q1, q2⟩ := inR_ix e (by omega)
    refine br_f (by decide) (T_isInI (lo := 0) (hi := 1) rfl rfl ?_)
    cases e2 : inR y 0 1 with
    | false => rw [e2] at hk; exact br_t rfl hk
    | true =>
      rw [e2] at hk
      obtain ⟨p1, p2⟩ := inR_ix (n := 2) e2 (by omega)
      refine br_f (by decide) ?_
      rw [q1, p1, show (8 : Int32) + 2 * nI (ix x) = nI (8 + 2 * ix x) from i2 _ 8, nI_add, nI_clamp (by omega)]
      refine ⟨vi_ (by omega) (by omega), ?_⟩
      rw [show 8 + 2 * ix x + ix y = 8 + (2 * ix x + ix y) by omega, h.ev.2.1.2.2.2.1 _ (by omega), show 24 + (2 * ix x + ix y) = 24 + 2 * ix x + ix y by omega]
      exact hk
theorem T_takes_law {x y : Int32} (h : RT a τ) (hk : ∀ τ', RT a τ' → K (sp_takes a x y) τ') : T_takes τ x y K := by
  have hc := h.ev.c
  unfold sp_takes isTh isMe at hk
  refine T_isThing_law h ?_
  cases e : inR x 0 ((iC (aI a) 0 : Int) - 1) with
  | false => rw [e] at hk; exact br_t rfl (hk τ h)
  | true =>
    rw [e, Bool.true_and] at hk
    obtain ⟨q1, q2⟩ := inR_ix e (by omega)
    refine br_f (by decide) (T_isMender_law h ?_)
    cases e2 : inR y 0 ((iC (aI a) 1 : Int) - 1) with
    | false => rw [e2] at hk; exact br_t rfl (hk τ h)
    | true =>
      rw [e2] at hk
      obtain ⟨p1, p2⟩ := inR_ix e2 (by omega)
      refine br_f (by decide) ?_
      rw [q1, p1]
      exact T_hoursOf_law h.ev q2 p2 fun τ' f => hk τ' (h.frE f)
theorem T_fine_law {x y : Int32} (h : RT a τ) (hk : ∀ τ', RT a τ' → K (sp_fine a x y) τ') : T_fine τ x y K := by
  have hc := h.ev.c
  unfold sp_fine isTh isMe at hk
  refine T_isThing_law h ?_
  cases e : inR x 0 ((iC (aI a) 0 : Int) - 1) with
  | false => rw [e] at hk; exact br_t rfl (hk τ h)
  | true =>
    rw [e, Bool.true_and] at hk
    obtain ⟨q1, q2⟩ := inR_ix e (by omega)
    refine br_f (by decide) (T_isMender_law h ?_)
    cases e2 : inR y 0 ((iC (aI a) 1 : Int) - 1) with
    | false => rw [e2] at hk; exact br_t rfl (hk τ h)
    | true =>
      rw [e2] at hk
      obtain ⟨p1, p2⟩ := inR_ix e2 (by omega)
      refine br_f (by decide) ?_
      rw [q1, p1]
      exact T_fineOf_law h.ev q2 p2 fun τ' f => hk τ' (h.frE f)
theorem T_isTrial_law {I : Isl} {s : Nat → Nat} {k t : Nat} (h : EvC I (-1, 0) s τ) (hk5 : k < iC I 2) (ht : t < iC I 0) (hk : ∀ τ', FrE τ τ' → K (b1 (spTrial I s k t)) τ') : T_isTrial τ (nI k) (nI t) K := by
  have hc := h.c
  unfold T_isTrial
  rw [show (5 : Int32) + nI k = nI (5 + k) from nI_add 5 k]
  obtain ⟨v, hv⟩ := Option.isSome_iff_exists.mp (h.1.2.2.2.2.2.1 k hk5)
  refine tell_T (w := 5 + k) h ht (by omega) (by omega) hv fun τ' f => ?_
  have hkk := hk τ' f
  rw [show spTrial I s k t = v (evC I (-1, 0) s t 0) by unfold spTrial; rw [hv]] at hkk
  cases e : v (evC I (-1, 0) s t 0) with
  | true => rw [e] at hkk; exact bn_f rfl hkk
  | false => rw [e] at hkk; exact bn_t (by decide) hkk
theorem T_trial_law {x y : Int32} (h : RT a τ) (hk : ∀ τ', RT a τ' → K (sp_trial a x y) τ') : T_trial τ x y K := by
  have hc := h.ev.c
  unfold sp_trial isTr isTh at hk
  refine T_trialMany_law h.ev (T_isInI (lo := 0) rfl (pred_int (by omega)) ?_)
  cases e : inR x 0 ((iC (aI a) 2 : Int) - 1) with
  | false => rw [e] at hk; exact br_t rfl (hk τ h)
  | true =>
    rw [e, Bool.true_and] at hk
    obtain ⟨q1, q2⟩ := inR_ix e (by omega)
    refine br_f (by decide) (T_isThing_law h ?_)
    cases e2 : inR y 0 ((iC (aI a) 0 : Int) - 1) with
    | false => rw [e2] at hk; exact bn_f rfl (hk τ h)
    | true =>
      rw [e2] at hk
      obtain ⟨p1, p2⟩ := inR_ix e2 (by omega)
      refine bn_t (by decide) ?_
      rw [q1, p1]
      refine T_isTrial_law h.ev q2 p2 fun τ' f => ?_
      have hkk := hk τ' (h.frE f)
      cases e3 : spTrial (aI a) (aS a).1 (ix x) (ix y) with
      | true => rw [e3] at hkk; exact br_f (by decide) hkk
      | false => rw [e3] at hkk; exact br_t rfl hkk
theorem T_thing_law {x y : Int32} (h : RT a τ) (hk : ∀ τ', RT a τ' → K (sp_thing a x y) τ') : T_thing τ x y K := by
  have hc := h.ev.c
  unfold sp_thing isTh at hk
  refine T_isThing_law h ?_
  cases e : inR x 0 ((iC (aI a) 0 : Int) - 1) with
  | false => rw [e] at hk; exact bn_f rfl (hk τ h)
  | true =>
    rw [e, if_pos rfl] at hk
    obtain ⟨q1, q2⟩ := inR_ix e (by omega)
    refine bn_t (by decide) (T_isInI (lo := 0) (hi := 2) rfl rfl ?_)
    cases e2 : inR y 0 2 with
    | true =>
      rw [e2, if_pos rfl] at hk
      obtain ⟨p1, p2⟩ := inR_ix (n := 3) e2 (by omega)
      refine br_f (by decide) ?_
      rw [q1, p1, show (24 : Int32) + 3 * nI (ix x) = nI (24 + 3 * ix x) from i3 _ 24, nI_add, nI_clamp (by omega)]
      refine ⟨vi_ (by omega) (by omega), ?_⟩
      rw [show 24 + 3 * ix x + ix y = 24 + (3 * ix x + ix y) by omega, h.ev.thg (by omega)]
      have hkk := hk τ h
      exact hkk
    | false =>
      rw [e2, if_neg (by decide)] at hk
      refine br_t rfl (T_isInI (lo := 3) (hi := 7) rfl rfl ?_)
      cases e3 : inR y 3 7 with
      | true =>
        rw [e3, if_pos rfl] at hk
        have e37 := e3
        unfold inR at e37
        rw [decide_eq_true_eq] at e37
        obtain ⟨p1, p2⟩ := inR_ix (x := y) (n := 8) (by unfold inR; rw [decide_eq_true_eq]; omega) (by omega)
        have p3 : 3 ≤ ix y := by unfold ix; omega
        refine br_f (by decide) ?_
        rw [q1, p1, show (1 : Int32) + 5 * nI (ix x) = nI (1 + 5 * ix x) from i5 _ 1, nI_add, show (3 : Int32) = nI 3 from rfl, nI_sub (by omega), nI_clamp (by omega)]
        refine ⟨vi_ (by omega) (by omega), ?_⟩
        rw [show 1 + 5 * ix x + ix y - 3 = 1 + 5 * ix x + (ix y - 3) by omega, h.ev.st_ (by omega)]
        have hkk := hk τ h
        exact hkk
      | false =>
        rw [e3, if_neg (by decide)] at hk
        refine br_t rfl ?_
        by_cases c8 : y = 8
        · rw [if_pos c8] at hk
          refine bn_f c8 ?_
          rw [q1]
          refine T_doesStand_law h.ev q2 fun τ' f => ?_
          have hkk := hk τ' (h.frE f)
          cases e4 : spStands (aI a) (-1, 0) (aS a).1 (ix x) with
          | true => rw [e4] at hkk; exact br_f (by decide) hkk
          | false => rw [e4] at hkk; exact br_t rfl hkk
        · rw [if_neg c8] at hk
          exact bn_t c8 (hk τ h)
end TOp
