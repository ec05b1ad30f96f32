set_option maxRecDepth 100000
/-! TOKENS, plain: kind (0 word kept back, 1 name, 2 variable, 3 int, 4 string, 5 char, 6 end), place, bytes, value -/
abbrev Tok : Type := Nat × Nat × List Int × Int
def sKept : List (List Int) := [[97, 110, 100], [97, 110, 100, 97, 108, 115, 111], [97, 115], [99, 97, 115, 101], [100, 97, 116, 97, 116, 121, 112, 101], [100, 111], [101, 108, 115, 101], [101, 110, 100], [101, 120, 99, 101, 112, 116, 105, 111, 110], [102, 110], [102, 117, 110], [104, 97, 110, 100, 108, 101], [105, 102], [105, 110], [105, 110, 102, 105, 120], [105, 110, 102, 105, 120, 114], [108, 101, 116], [108, 111, 99, 97, 108], [110, 111, 110, 102, 105, 120], [111, 102], [111, 112], [111, 114, 101, 108, 115, 101], [114, 97, 105, 115, 101], [114, 101, 99], [116, 104, 101, 110], [116, 121, 112, 101], [118, 97, 108], [119, 104, 105, 108, 101], [40], [41], [91], [93], [123], [125], [44], [59], [46, 46, 46], [95], [58], [124], [61], [61, 62], [45, 62], [35]]
def sSkip (p : Int → Bool) (t : List Int) (i : Nat) : Nat := if i < t.length ∧ p (tch t i) = true then sSkip p t (i + 1) else i
termination_by t.length - i
theorem sSkip_ge {p : Int → Bool} {t : List Int} : ∀ n i, t.length < n + i → i ≤ sSkip p t i ∧ (i ≤ t.length → sSkip p t i ≤ t.length) := by
  intro n
  induction n with
  | zero => intro i h; rw [sSkip, if_neg (by omega)]; exact ⟨Nat.le_refl _, fun z => z⟩
  | succ n ih =>
    intro i h
    rw [sSkip]
    by_cases hc : i < t.length ∧ p (tch t i) = true
    · rw [if_pos hc]
      have := ih (i + 1) (by omega)
      exact ⟨by omega, fun _ => this.2 (by omega)⟩
    · rw [if_neg hc]; exact ⟨Nat.le_refl _, fun z => z⟩
theorem sSkip_ge' {p : Int → Bool} {t : List Int} {i : Nat} (h : i ≤ t.length) : i ≤ sSkip p t i ∧ sSkip p t i ≤ t.length := ⟨(sSkip_ge (t.length + 1) i (by omega)).1, (sSkip_ge (t.length + 1) i (by omega)).2 h⟩
abbrev LexR : Type := (Int × Nat) ⊕ (Tok × Nat)
def sNamed (t : List Int) (a e : Nat) : LexR := if 30 < e - a then .inl (1, a) else .inr ((if sl t a (e - a) ∈ sKept then 0 else 1, a, sl t a (e - a), 0), e)
def sName (t : List Int) (a : Nat) : LexR := sNamed t a (sSkip sGoes t a)
def sVar (t : List Int) (a : Nat) : LexR :=
  if sLetter (tch t (if tch t (a + 1) = 39 then a + 2 else a + 1)) = true then
    (if 30 < sSkip sGoes t (if tch t (a + 1) = 39 then a + 2 else a + 1) - a then .inl (1, a) else .inr ((2, a, sl t a (sSkip sGoes t (if tch t (a + 1) = 39 then a + 2 else a + 1) - a), 0), sSkip sGoes t (if tch t (a + 1) = 39 then a + 2 else a + 1)))
  else .inl (1, if tch t (a + 1) = 39 then a + 2 else a + 1)
/-- digits as a number -/
def sNum (t : List Int) (i : Nat) (v : Int) : Int × Nat := if i < t.length ∧ sDigit (tch t i) = true then sNum t (i + 1) (10 * v + (tch t i - 48)) else (v, i)
termination_by t.length - i
def sInt (t : List Int) (a : Nat) : LexR :=
  if tch t a = 126 then (if (sNum t (a + 1) 0).1 > 2147483648 then .inl (1, a) else .inr ((3, a, [126], -(sNum t (a + 1) 0).1), (sNum t (a + 1) 0).2))
  else (if (sNum t a 0).1 > 2147483647 then .inl (1, a) else .inr ((3, a, [], (sNum t a 0).1), (sNum t a 0).2))
/-- where a name of signs ends -/
def sSignEnd (t : List Int) (i : Nat) : Nat := if i < t.length ∧ sSign (tch t i) = true ∧ ¬ (tch t i = 126 ∧ sDigit (tch t (i + 1)) = true) ∧ ¬ (tch t i = 35 ∧ tch t (i + 1) = 34) then sSignEnd t (i + 1) else i
termination_by t.length - i
def sSigns (t : List Int) (a : Nat) : LexR := sNamed t a (sSignEnd t (a + 1))
def sOther (t : List Int) (a : Nat) : LexR :=
  if tch t a = 46 then (if tch t (a + 1) ≠ 46 then .inl (1, a + 1) else if tch t (a + 2) ≠ 46 then .inl (1, a + 2) else sNamed t a (a + 3))
  else if tch t a = 40 ∨ tch t a = 41 ∨ tch t a = 91 ∨ tch t a = 93 ∨ tch t a = 123 ∨ tch t a = 125 ∨ tch t a = 44 ∨ tch t a = 59 ∨ tch t a = 95 then sNamed t a (a + 1) else .inl (1, a)
/-- a sign behind \ : its byte and where it ends -/
def sDig (t : List Int) (i : Nat) (v by0 : Int) : Option Int := if sDigit (tch t i) = true ∧ v + by0 * (tch t i - 48) ≤ 255 then some (v + by0 * (tch t i - 48)) else none
def sEsc (t : List Int) (i : Nat) : Nat ⊕ (Int × Nat) :=
  if tch t i = 110 then .inr (10, i + 1) else if tch t i = 116 then .inr (9, i + 1) else if tch t i = 92 ∨ tch t i = 34 then .inr (tch t i, i + 1) else
  match sDig t i 0 100 with
  | none => .inl i
  | some v => match sDig t (i + 1) v 10 with
    | none => .inl (i + 1)
    | some v => match sDig t (i + 2) v 1 with
      | none => .inl (i + 2)
      | some v => .inr (v, i + 3)
/-- what a string has, from a place on, to its end -/
def sStr (t : List Int) (i : Nat) (acc : List Int) : Nat ⊕ (List Int × Nat) :=
  if i < t.length then
    if tch t i = 34 then .inr (acc, i + 1) else
    if tch t i = 92 then (match sEsc t (i + 1) with
      | .inl p => .inl p
      | .inr (v, j) => if i < j then sStr t j (acc ++ [v]) else .inl j) else
    if tch t i < 32 ∨ 126 < tch t i then .inl i else sStr t (i + 1) (acc ++ [tch t i])
  else .inl i
termination_by t.length - i
def sString (t : List Int) (a : Nat) : LexR := match sStr t (a + 1) [] with
  | .inl p => .inl (1, p)
  | .inr (b, j) => if 200 < b.length then .inl (1, a) else .inr ((4, a, b, 0), j)
def sChar (t : List Int) (a : Nat) : LexR := match sStr t (a + 2) [] with
  | .inl p => .inl (1, p)
  | .inr (b, j) => if b.length ≠ 1 then .inl (1, a) else .inr ((5, a, b, b.getD 0 0), j)
/-- the token at a place, where no gap is -/
def sTok (t : List Int) (a : Nat) : LexR :=
  if sLetter (tch t a) = true then sName t a else
  if tch t a = 39 then sVar t a else
  if sDigit (tch t a) = true ∨ (tch t a = 126 ∧ sDigit (tch t (a + 1)) = true) then sInt t a else
  if tch t a = 34 then sString t a else
  if tch t a = 35 ∧ tch t (a + 1) = 34 then sChar t a else
  if sSign (tch t a) = true then sSigns t a else sOther t a
/-- the next token: how many there were, from where -/
def sRead (t : List Int) (n i : Nat) : LexR := match sGaps t i with
  | .inl e => .inl e
  | .inr j => if j = t.length then .inr ((6, j, [], 0), j) else if 1000 ≤ n then .inl (4, j) else sTok t j
/-! a string's bytes in the reference -/
def SB (S : ZS) (a : Int) (b : List Int) : Prop := S.2.2.1 9 a = zbyte b.length ∧ ∀ k : Nat, k < b.length → S.2.2.1 9 (a + 1 + k) = zbyte (b.getD k 0)
def TkM (S : ZS) (W : List (List Int)) (k : Tok) : Prop := S.1 22 = (k.1 : Int) ∧ S.1 23 = (k.2.1 : Int) ∧ (k.1 < 3 → ∃ w : Nat, w < W.length ∧ S.1 24 = (w : Int) ∧ W.getD w [] = k.2.2.1) ∧ (k.1 = 3 → S.1 24 = k.2.2.2 ∧ S.1 26 = if k.2.2.1 = [] then 0 else 1) ∧ (k.1 = 4 → 0 ≤ S.1 25 ∧ S.1 25 + 1 + k.2.2.1.length ≤ S.1 30 ∧ SB S (S.1 25) k.2.2.1) ∧ (k.1 = 5 → S.1 24 = k.2.2.2)
def FR0 : List Nat := [12, 13, 22, 24, 25, 26, 27, 30]
def AR0 : List Nat := [3, 4, 5, 6, 7, 9]
def FE0 : List Nat := [22, 24, 25, 26, 27, 30, 31, 32]
/-- names: the words that are kept back first; room -/
def NW (S : ZS) (W : List (List Int)) : Prop := NT S W ∧ sKept <+: W ∧ W.length < 14990 ∧ off W W.length ≤ 43900
/-- a string's bytes, with their length -/
def kB (k : Tok) : Nat := if k.1 = 4 ∨ k.1 = 5 then 1 + k.2.2.1.length else 0
/-- read: token k, up to j -/
def RdOk (S : ZS) (W : List (List Int)) (k : Tok) (j : Nat) (S' : ZS) : Prop := zAg FR0 AR0 S S' ∧ S'.1 27 = (j : Int) ∧ (∃ W', W <+: W' ∧ W'.length ≤ W.length + 1 ∧ off W' W'.length ≤ off W W.length + 30 ∧ NT S' W' ∧ TkM S' W' k) ∧ S'.1 30 = S.1 30 + kB k ∧ ∀ i : Int, i < S.1 30 → S'.2.2.1 9 i = S.2.2.1 9 i
theorem le30 {a b : Int} {k : Tok} (hk : k.1 < 4) (h : a = b) : a = b + kB k := by
  unfold kB
  rw [if_neg (by omega)]
  omega
def RdEr (S : ZS) (e : Int) (p : Nat) (S' : ZS) : Prop := zAg FE0 [9] S S' ∧ S'.1 31 = e ∧ S'.1 32 = (p : Int) ∧ ∀ i : Int, i < S.1 30 → S'.2.2.1 9 i = S.2.2.1 9 i
