/-! PURE SIDE: what texts mean. Bytes B, n of them; errors (kind, place) on the left. -/
abbrev Byt : Type := Nat → Nat
def bt (B : Byt) (n k : Nat) : Nat := if k < n then B k else 256
def cI (c : Nat) : Int32 := if c = 256 then -1 else nI c
def pL (c : Nat) : Bool := decide (97 ≤ c ∧ c ≤ 122)
def pD (c : Nat) : Bool := decide (48 ≤ c ∧ c ≤ 57)
def bl (c : Nat) : Bool := decide (c = 32 ∨ c = 10)
def skp (B : Byt) (n k : Nat) : Nat := rnE (fun j => bl (bt B n j)) n k
def wEn (B : Byt) (n k : Nat) : Nat := rnE (fun j => pL (bt B n j)) n k
def dEn (B : Byt) (n k : Nat) : Nat := rnE (fun j => pD (bt B n j)) n k
/-- a letter or digit stands just ahead -/
def pA (B : Byt) (p : Nat) : Bool := decide (0 < p) && (pL (B (p - 1)) || pD (B (p - 1)))
def wd (B : Byt) (p q : Nat) : List Nat := (List.range (q - p)).map (fun i => B (p + i))
/-- a word can begin at p -/
def okW (B : Byt) (n p : Nat) : Bool := pL (bt B n p) && !(pA B p)
abbrev Rs (α : Type) : Type := (Nat × Nat) ⊕ α
def rsB {α β : Type} (r : Rs α) (f : α → Rs β) : Rs β := match r with
  | .inl e => .inl e
  | .inr a => f a
def pWord (B : Byt) (n k : Nat) : Rs (Nat × Nat) := if okW B n (skp B n k) then .inr (skp B n k, wEn B n (skp B n k)) else .inl (1, skp B n k)
def hereW (B : Byt) (n k : Nat) (w : List Nat) : Bool := okW B n (skp B n k) && decide (wd B (skp B n k) (wEn B n (skp B n k)) = w)
/-- that word must come: behind it -/
def pWd (B : Byt) (n k : Nat) (w : List Nat) : Rs Nat := if hereW B n k w then .inr (wEn B n (skp B n k)) else .inl (1, skp B n k)
def pMust (B : Byt) (n k c : Nat) : Rs Nat := if bt B n (skp B n k) = c then .inr (skp B n k + 1) else .inl (1, skp B n k)
def dV (B : Byt) (p : Nat) : Nat → Nat
  | 0 => 0
  | i + 1 => 10 * dV B p i + B (p + i) - 48
def pNum (B : Byt) (n k lo hi : Nat) : Rs (Nat × Nat) :=
  let p := skp B n k
  if pD (bt B n p) && !(pA B p) then
    if 4 < dEn B n p - p then .inl (1, p + 4)
    else if lo ≤ dV B p (dEn B n p - p) ∧ dV B p (dEn B n p - p) ≤ hi then .inr (dV B p (dEn B n p - p), dEn B n p) else .inl (2, p)
  else .inl (1, p)
/-- sums and tests: functions of what is asked (numbers by place; what is told of a number) -/
abbrev Env : Type := (Nat → Int64) × (Int64 → Int64)
abbrev VV : Type := Env → Int64
abbrev TT : Type := Env → Bool
def mxL (a b : Int64) : Int64 := if a < b then b else a
def mnL (a b : Int64) : Int64 := if b < a then b else a
def hdL (v : Int64) : Int64 := mxL (-1000000) (mnL 1000000 v)
def fdv (a b : Int64) : Int64 := if 0 ≤ (a ^^^ b) then a / b else if (a / b) * b = a then a / b else (a / b) - 1
def twoL (s : Nat) (a b : Int64) : Int64 := if s = 42 then a * b else if s = 43 then a + b else if s = 45 then a - b else if b = 0 then 0 else fdv a b
/-- which kinds of texts may ask what: 0 falls, first; 1 stands, trials; 2 takes, fine; 3 a question -/
def alw (tk j : Nat) : Bool := decide (j < 6) || (if tk = 1 then decide (j = 6) else if tk = 2 then decide (j = 7) else decide (tk = 3) && decide (j ≠ 7))
def askWs : List (List Nat) := [[119, 111, 114, 116, 104], [117, 115, 101], [102, 114, 97, 105, 108], [98, 114, 101, 97, 107, 115], [109, 101, 110, 100, 115], [100, 97, 121], [103, 108, 117, 101], [115, 107, 105, 108, 108], [110, 117, 109, 98, 101, 114], [102, 111, 114, 103, 101, 100]]
def isWd : List Nat := [105, 115]
def minWd : List Nat := [109, 105, 110]
def maxWd : List Nat := [109, 97, 120]
def notWd : List Nat := [110, 111, 116]
def allWd : List Nat := [97, 108, 108]
def andWd : List Nat := [97, 110, 100]
def orWd : List Nat := [111, 114]
/-- products and sums over atoms A -/
def pPrL (B : Byt) (n : Nat) (A : Nat → Rs (VV × Nat)) : Nat → VV → Nat → Rs (VV × Nat)
  | 0, v, k => .inr (v, skp B n k)
  | f + 1, v, k => if bt B n (skp B n k) = 42 ∨ bt B n (skp B n k) = 47 then
      rsB (A (skp B n k + 1)) (fun r => pPrL B n A f (fun e => hdL (twoL (bt B n (skp B n k)) (v e) (r.1 e))) r.2)
    else .inr (v, skp B n k)
def pPro (B : Byt) (n : Nat) (A : Nat → Rs (VV × Nat)) (k : Nat) : Rs (VV × Nat) := rsB (A k) (fun r => pPrL B n A (n - r.2) r.1 r.2)
def pSuL (B : Byt) (n : Nat) (A : Nat → Rs (VV × Nat)) : Nat → VV → Nat → Rs (VV × Nat)
  | 0, v, k => .inr (v, skp B n k)
  | f + 1, v, k => if bt B n (skp B n k) = 43 ∨ bt B n (skp B n k) = 45 then
      rsB (pPro B n A (skp B n k + 1)) (fun r => pSuL B n A f (fun e => hdL (twoL (bt B n (skp B n k)) (v e) (r.1 e))) r.2)
    else .inr (v, skp B n k)
def pSum (B : Byt) (n : Nat) (A : Nat → Rs (VV × Nat)) (k : Nat) : Rs (VV × Nat) := rsB (pPro B n A k) (fun r => pSuL B n A (n - r.2) r.1 r.2)
/-- brackets: one sum, or the lesser (1) or greater (2) of two -/
def pWit (B : Byt) (n : Nat) (A : Nat → Nat → Rs (VV × Nat)) (two o k : Nat) : Rs (VV × Nat) :=
  if bt B n (skp B n k) = 40 then
    if o = 6 then .inl (4, skp B n k)
    else rsB (pSum B n (A (o + 1)) (skp B n k + 1)) (fun r =>
      if two = 0 then rsB (pMust B n r.2 41) (fun k' => .inr (r.1, k'))
      else rsB (pMust B n r.2 44) (fun k1 => rsB (pSum B n (A (o + 1)) k1) (fun r2 => rsB (pMust B n r2.2 41) (fun k' =>
        .inr ((fun e => if two = 2 then (if r.1 e ≤ r2.1 e then r2.1 e else r.1 e) else (if r.1 e ≤ r2.1 e then r.1 e else r2.1 e)), k')))))
  else .inl (1, skp B n k)
def pAtm (B : Byt) (n tk : Nat) : Nat → Nat → Nat → Rs (VV × Nat)
  | 0, _, _ => .inl (0, 0)
  | m + 1, o, k =>
    if bt B n (skp B n k) = 40 then pWit B n (pAtm B n tk m) 0 o k
    else if pD (bt B n (skp B n k)) then rsB (pNum B n k 0 9999) (fun r => .inr ((fun _ => (nI r.1).toInt64), r.2))
    else rsB (pWord B n k) (fun r =>
      if (askWs.findIdx? (fun w => decide (wd B r.1 r.2 = w))).any (alw tk) then .inr ((fun e => hdL (e.1 ((askWs.findIdx? (fun w => decide (wd B r.1 r.2 = w))).getD 0))), r.2)
      else if tk = 3 ∧ wd B r.1 r.2 = isWd then
        if o = 6 then .inl (4, r.1) else rsB (pAtm B n tk m (o + 1) r.2) (fun x => .inr ((fun e => hdL (e.2 (x.1 e))), x.2))
      else if wd B r.1 r.2 = minWd then pWit B n (pAtm B n tk m) 1 o r.2
      else if wd B r.1 r.2 = maxWd then pWit B n (pAtm B n tk m) 2 o r.2
      else .inl (1, r.1))
/-- a word that may come: behind it; a word that begins where none can is a fault -/
def pPas (B : Byt) (n k : Nat) (w : List Nat) : Rs (Option Nat) :=
  if pL (bt B n (skp B n k)) then
    if pA B (skp B n k) then .inl (1, skp B n k)
    else if wd B (skp B n k) (wEn B n (skp B n k)) = w then .inr (some (wEn B n (skp B n k))) else .inr none
  else .inr none
def pBoL (B : Byt) (n : Nat) (F : Nat → Rs (TT × Nat)) : Nat → TT → Nat → Rs (TT × Nat)
  | 0, v, k => .inr (v, k)
  | f + 1, v, k => rsB (pPas B n k andWd) (fun w => match w with
    | none => .inr (v, skp B n k)
    | some q => rsB (F q) (fun r => pBoL B n F f (fun e => v e && r.1 e) r.2))
def pBot (B : Byt) (n : Nat) (F : Nat → Rs (TT × Nat)) (k : Nat) : Rs (TT × Nat) := rsB (F k) (fun r => pBoL B n F (n - r.2 + 1) r.1 r.2)
def pTeL (B : Byt) (n : Nat) (F : Nat → Rs (TT × Nat)) : Nat → TT → Nat → Rs (TT × Nat)
  | 0, v, k => .inr (v, k)
  | f + 1, v, k => rsB (pPas B n k orWd) (fun w => match w with
    | none => .inr (v, skp B n k)
    | some q => rsB (pBot B n F q) (fun r => pTeL B n F f (fun e => v e || r.1 e) r.2))
def pTes (B : Byt) (n : Nat) (F : Nat → Rs (TT × Nat)) (k : Nat) : Rs (TT × Nat) := rsB (pBot B n F k) (fun r => pTeL B n F (n - r.2 + 1) r.1 r.2)
def cmpL (c : Nat) (a b : Int64) : Bool := if c = 60 then decide (a < b) else if c = 62 then decide (b < a) else decide (a = b)
def pFac (B : Byt) (n tk : Nat) : Nat → Nat → Nat → Rs (TT × Nat)
  | 0, _, _ => .inl (0, 0)
  | m + 1, o, k =>
    if bt B n (skp B n k) = 91 then
      if o = 6 then .inl (4, skp B n k)
      else rsB (pTes B n (pFac B n tk m (o + 1)) (skp B n k + 1)) (fun r => rsB (pMust B n r.2 93) (fun k' => .inr (r.1, k')))
    else rsB (pPas B n k notWd) (fun w => match w with
      | some q => if o = 6 then .inl (4, skp B n k) else rsB (pFac B n tk m (o + 1) q) (fun r => .inr ((fun e => !(r.1 e)), r.2))
      | none => rsB (pPas B n k allWd) (fun w => match w with
        | some q => .inr ((fun _ => true), q)
        | none => rsB (pSum B n (pAtm B n tk m o) k) (fun r =>
          if bt B n (skp B n r.2) = 60 ∨ bt B n (skp B n r.2) = 62 ∨ bt B n (skp B n r.2) = 61 then
            rsB (pSum B n (pAtm B n tk m o) (skp B n r.2 + 1)) (fun r2 => .inr ((fun e => cmpL (bt B n (skp B n r.2)) (r.1 e) (r2.1 e)), r2.2))
          else .inl (1, skp B n r.2))))
