set_option maxRecDepth 100000
/-! THE HOUSE'S PARSER: trees as objects; its state; what a run of it keeps -/
def hi (s : List (Gt × Gt)) (j : Nat) : Gt := (s.map fun q => q.2).getD j oN
def hs (s : List (Gt × Gt)) : List Gt := s.map fun q => q.2
def hq (p : List (List Int)) (j : Nat) : Int := (p.getD 0 []).getD j 0
def hnm (p : List (List Int)) : List Int := p.getD 1 []
def dgs (n : Nat) : List Int := (Nat.toDigits 10 n).map fun c => (c.toNat : Int)
def nlb (n : Nat) : List Gt := (List.range n).map fun k => oS (dgs (k + 1))
/-- VARIABLES as they stand: those outside of inner val and fun, or all -/
def gmn (all : Bool) : Gt → List Gt := gfold [] fun k p s => match k with
  | 50 => [oM (hq p 0) (hnm p)]
  | 37 => (s.reverse.map fun q => q.2).flatten
  | 80 => (s.map fun q => q.2).getD 0 [] ++ (s.map fun q => q.2).getD 2 [] ++ (s.map fun q => q.2).getD 1 []
  | 70 => if all then (s.map fun q => q.2).flatten else []
  | 71 => if all then (s.map fun q => q.2).flatten else []
  | 72 => if all then (s.map fun q => q.2).flatten else []
  | 73 => []
  | 74 => []
  | 75 => []
  | _ => (s.map fun q => q.2).flatten
def gms (all : Bool) (s : List Gt) : List Gt := (s.map (gmn all)).flatten
def oFs (l : List (Nat × Gt)) : List Gt := l.map fun q => oF q.1 q.2
/-- fields of rows: labels, places, parts -/
def hlb (s : List (Gt × Gt)) : List Gt := s.map fun q => oS (hnm (gp q.1))
def hpl (s : List (Gt × Gt)) : List Gt := s.map fun q => oE (hq (gp q.1) 0)
def hoG (k : Nat) (p : List (List Int)) (s : List (Gt × Gt)) : Gt := match k with
  | 0 => oL (hs s)
  | 63 => oL ((s.filter fun q => decide (gk q.1 ≠ 83)).map fun q => q.2)
  | 20 => oO 47 [11700, hq p 0] [oF 14101 (oL (nlb s.length)), oF 14102 oN, oF 14103 (oL (hs s))]
  | 3 => oO 51 [11700, hq p 0, 15302, hq p 1] [oF 15301 (oS (hnm p))]
  | 4 => oO 50 [11700, hq p 0, 15002, hq p 1] [oF 15001 (oS (hnm p))]
  | 5 => oO 47 [11700, hq p 0] [oF 14101 (oL (hlb s)), oF 14102 (oL (hpl s)), oF 14103 (oL (hs s))]
  | 6 => oO 53 [11700, hq p 0] [oF 15901 (hi s 0), oF 15902 (oL ((hs s).drop 1))]
  | 7 => oO 54 [11700, hq p 0] [oF 16201 (oO 51 [11700, hq p 1, 15302, hq p 1] [oF 15301 (oS (hnm p))]), oF 16202 (hi s 0), oF 16203 (hi s 1)]
  | 8 => oO 39 [11700, hq p 0] [oF 11701 (hi s 0)]
  | 9 => oO 40 [11700, hq p 0] [oF 12001 (hi s 0), oF 12002 (hi s 1), oF 12003 (hi s 2)]
  | 10 => oO 41 [11700, hq p 0] [oF 12301 (hi s 0), oF 12302 (hi s 1)]
  | 11 => oO 42 [11700, hq p 0, 12603, hq p 1] [oF 12601 (hi s 0), oF 12602 (oO 43 [] [oF 12900 (hi s 1)])]
  | 12 => oO 45 [11700, hq p 0, 13502, hq p 1] [oF 13501 (oO 43 [] [oF 12900 (hi s 0)])]
  | 13 => oO 57 [11700, hq p 0, 17103, hq p 1] [oF 17101 (hi s 0), oF 17102 (oO 43 [] [oF 12900 (hi s 1)])]
  | 14 => oO 56 [11700, hq p 0, 16801, 0] [oF 16802 (hi s 0), oF 16803 (hi s 1)]
  | 15 => oO 56 [11700, hq p 0, 16801, 1] [oF 16802 (hi s 0), oF 16803 (hi s 1)]
  | 16 => oO 55 [11700, hq p 0] [oF 16501 (hi s 0), oF 16502 (hi s 1)]
  | 17 => oO 46 [11700, hq p 0] [oF 13801 (oL (hs s))]
  | 18 => oO 49 [11700, hq p 0] [oF 14701 (hi s 0), oF 14702 (match gs ((s.getD 1 (oN, oN)).1), gs (hi s 1) with | [_], [x] => x | _, l => oO 46 [] [oF 13801 (oL l)])]
  | 19 => oO 48 [11700, hq p 0] [oF 14401 (oL (hs s))]
  | 30 => oO 36 [7500, hq p 0] []
  | 31 => oO 33 [7500, hq p 0, 9902, hq p 1, 9903, hq p 2] [oF 9901 (oS (hnm p))]
  | 35 => oO 25 [7500, hq p 0, 7505, hq p 2, 7504, hq p 1] [oF 7501 (oL (hlb s)), oF 7502 (oL (hpl s)), oF 7503 (oL (hs s))]
  | 36 => oO 38 [7500, hq p 0, 11402, hq p 1, 11403, 0] [oF 11401 (oS (hnm p)), oF 11404 (hi s 0)]
  | 37 => oO 32 [7500, hq p 0, 9602, hq p 1] [oF 9601 (oS (hnm p)), oF 9603 (hi s 1), oF 9604 (hi s 0)]
  | 38 => oO 34 [7500, hq p 0] [oF 10201 (hi s 0), oF 10202 (hi s 1)]
  | 39 => oO 35 [7500, hq p 0] [oF 10501 (oL (hs s))]
  | 40 => oO 38 [7500, hq p 0, 11402, hq p 1, 11403, 1] [oF 11401 (oS (hnm p)), oF 11404 (oO 25 [7500, gbg (s.getD 0 (oN, oN)).1, 7504, 0] [oF 7501 (oL (nlb 2)), oF 7502 oN, oF 7503 (oL (hs s))])]
  | 41 => oO 25 [7500, hq p 0, 7504, 0] [oF 7501 (oL (nlb s.length)), oF 7502 oN, oF 7503 (oL (hs s))]
  | 50 => oO 28 [8400, hq p 0] [oF 8401 (oS (hnm p))]
  | 51 => oO 30 [8400, hq p 0] [oF 9001 (oS (hnm p)), oF 9002 (oL (hs s))]
  | 52 => oO 29 [] [oF 8701 (oL (hlb s)), oF 8702 (oL (hpl s)), oF 8703 (oL (hs s))]
  | 53 => oO 31 [] [oF 9301 (oL (hs s))]
  | 54 => oO 29 [] [oF 8701 (oL (nlb s.length)), oF 8702 oN, oF 8703 (oL (hs s))]
  | 60 => hi s 0
  | 61 => oO 44 [] [oF 13200 (hi s 0), oF 13201 (hi s 1)]
  | 70 => oO 24 [7206, 0] [oF 7200 (oL (gms false (s.map fun q => q.1))), oF 7201 (oL (gms true (s.map fun q => q.1))), oF 7204 (oL (s.map fun q => (gs q.2).getD 0 oN)), oF 7205 (oL (s.map fun q => (gs q.2).getD 1 oN))]
  | 71 => oO 24 [7206, 1] [oF 7200 (oL (gms false (s.map fun q => q.1))), oF 7201 (oL (gms true (s.map fun q => q.1))), oF 7204 (oL (s.map fun q => (gs q.2).getD 0 oN)), oF 7205 (oL (s.map fun q => (gs q.2).getD 1 oN))]
  | 72 => oO 58 [] [oF 7200 (oL (gms false (s.map fun q => q.1))), oF 7201 (oL (gms true (s.map fun q => q.1))), oF 17404 (oL (hs s))]
  | 73 => oO 61 [18302, hq p 0] [oF 18300 (oL (((s.map fun q => q.1).drop 1).map fun v => oM (hq (gp v) 0) (hnm (gp v)))), oF 18301 (oS (hnm p)), oF 18303 (hi s 0)]
  | 74 => oO 62 [] [oF 18600 (oL (hs s))]
  | 75 => oO 65 [19501, hq p 0, 19504, 0] [oF 19500 (oS (hnm p)), oF 19502 (hi s 0), oF 19503 oN]
  | 76 => oO 65 [19501, hq p 0, 19504, hq p 1] [oF 19500 (oS (hnm p)), oF 19502 oN, oF 19503 (oS (p.getD 2 []))]
  | 77 => oO 66 [] [oF 19800 (hi s 0), oF 19801 (hi s 1)]
  | 78 => gn 0 [] (hs s)
  | 79 => oO 59 [17700, hq p 0] [oF 17701 (oL (hs s))]
  | 80 => oO 60 [18001, hq p 0] [oF 18000 (oS (hnm p)), oF 18002 (hi s 0), oF 18003 (hi s 2), oF 18004 (hi s 1)]
  | 81 => oO 63 [18902, hq p 0] [oF 18900 (oL ((gs ((s.getD 0 (oN, oN)).1)).map fun v => oM (hq (gp v) 0) (hnm (gp v)))), oF 18901 (oS (hnm p)), oF 18903 (hi s 1)]
  | 82 => oO 64 [19201, hq p 0] [oF 19200 (oS (hnm p)), oF 19202 (hi s 0)]
  | 83 => oN
  | k => if 90 ≤ k then oO 52 [11700, hq p 0] [oF 15601 (oT ((k : Int) - 87) (hq p 1) (hnm p))] else oO 37 [7500, hq p 0] [oF 11101 (oT ((k : Int) - 29) (hq p 1) (hnm p))]
def ho : Gt → Gt := gfold oN hoG
theorem ho_gn {k : Nat} {p : List (List Int)} {s : List Gt} : ho (gn k p s) = hoG k p (s.map fun x => (x, ho x)) := gfold_gn
/-- a val or fun under way: where, kind, numbers, further fields; its VARIABLES; room; their lists; since when -/
abbrev Ve : Type := Nat × (Nat × List Int × List Gt) × (List Gt × List Gt) × (Nat × Nat) × (Nat × Nat) × Nat
def veT (v : Ve) : Gt := oO v.2.1.1 v.2.1.2.1 (oF 7200 (oA v.2.2.2.2.1.1) :: oF 7201 (oA v.2.2.2.2.1.2) :: v.2.1.2.2)
def veM (v : Ve) : List (Gt × Option Nat) := [(oW v.2.2.2.2.2 (veT v), some v.1), (oW v.2.2.2.2.2 (oC v.2.2.2.1.1 v.2.2.1.1), some v.2.2.2.2.1.1), (oW v.2.2.2.2.2 (oC v.2.2.2.1.2 v.2.2.1.2), some v.2.2.2.2.1.2)]
def veN : List Ve → Nat
  | [] => 0
  | v :: V => v.2.2.1.1.length + v.2.2.1.2.length + veN V
/-- cells, slots that are paid for already -/
def ccV : List Ve → Nat
  | [] => 0
  | v :: V => V.length * v.2.2.1.2.length + ccV V
def crV : List Ve → Int
  | [] => 0
  | v :: V => (80 + 8 * v.2.2.1.1.length + 8 * v.2.2.1.2.length - 4 * v.2.2.2.1.1 - 4 * v.2.2.2.1.2 : Int) + 8 * ((V.length * v.2.2.1.2.length : Nat) : Int) + crV V
abbrev Et : Type := (Nat → Prop) × (Nat × Nat × Nat) × Bool × List Ve
abbrev eO (η : Et) : Nat → Prop := η.1
abbrev ec (η : Et) : Nat := η.2.1.1
abbrev es (η : Et) : Nat := η.2.1.2.1
abbrev ev (η : Et) : Nat := η.2.1.2.2
abbrev et (η : Et) : Bool := η.2.2.1
abbrev eV (η : Et) : List Ve := η.2.2.2
/-- how much is still to be read -/
def pmu (t : List Int) (σ : Ps) : Nat := if (pc σ).1 = 6 then 0 else if (pk σ).1 = 6 then 1 else 2 + (t.length - pi' σ)
/-- least length of a token -/
def tlen (k : Tok) : Nat := if k.1 = 2 then 2 else if k.1 = 6 then 0 else 1
def stT (F : List (List Int × Int × Int)) : List Gt := F.reverse.map fun f => oG f.2.1 f.2.2 f.1
/-- the owner's lists, and what is under way -/
def ovM (X : Nat → Nat) (F : List (List Int × Int × Int)) (η : Et) : List (Gt × Option Nat) := (oC (es η) (stT F), some (X 9)) :: (oC (ev η) ((eV η).reverse.map fun v => oA v.1), some (X 10)) :: (eV η).flatMap veM
/-- small Integers -/
def KI (C : YC) (H : YS) : Prop := C.2.1 16 = 127 ∧ ∃ e, C.2.2.1 17 = some e ∧ e < ynx H ∧ yK H e = 3011 ∧ yN H e = 256 ∧ ∀ j : Nat, j < 256 → ∃ s, yB H e j = some s ∧ s < ynx H ∧ yK H s = 2026 ∧ yI H 7800 s = (j : Int) - 128
/-- what the parser has but for its place in the text -/
def PB0 (C : YC) (B : Nat → Prop) (X : Nat → Nat) (H : YS) (dp : Nat) (F : List (List Int × Int × Int)) (η : Et) : Prop :=
  ((∀ x, eO η x → x < ynx H) ∧ (∀ x, B x → x < ynx H) ∧ KD C ∧ CW C ∧ (CE C H ∧ KI C H) ∧ Lf C B X H) ∧
  ((∀ x, PL X H x → eO η x) ∧ eO η (X 8) ∧ eO η (X 11) ∧ eO η (X 1) ∧ eO η (X 2) ∧ ∃ e, yR H 1501 (X 5) = some e ∧ e < ynx H) ∧
  (X 8 < ynx H ∧ yK H (X 8) = 6 ∧ yR H 1800 (X 8) = some (X 3) ∧ yR H 1801 (X 8) = some (X 0) ∧ yR H 1802 (X 8) = some (X 9) ∧ yR H 1803 (X 8) = some (X 10) ∧ yR H 1808 (X 8) = some (X 12) ∧ yR H 1809 (X 8) = some (X 11)) ∧
  (yI H 1806 (X 8) = dp ∧ (dp ≤ 40 ∧ (eV η).length ≤ dp + 1) ∧ yI H 1807 (X 8) = bI (et η)) ∧
  ImY C B H 106 [[4, 0], [61]] (X 12) ∧
  (X 11 < ynx H ∧ yK H (X 11) = 1006 ∧ yN H (X 11) = 1001 ∧ X 11 ≠ X 1 ∧ ∀ j : Nat, j < 1001 → yB H (X 11) j = none ∨ ∃ s, yB H (X 11) j = some s ∧ StrY B H s (dgs j)) ∧
  ((es η ≤ 1000000 ∧ ∀ f ∈ F, f.1.length ≤ 200) ∧ ev η ≤ 1000000 ∧ ∀ v ∈ eV η, (v.2.1.1 = 24 ∨ v.2.1.1 = 58) ∧ v.2.2.2.1.1 ≤ 10 + 2 * v.2.2.1.1.length ∧ v.2.2.2.1.2 ≤ 10 + 2 * v.2.2.1.2.length) ∧
  ∃ O2 : Nat → Prop, (∀ x, O2 x → eO η x ∧ ¬ PL X H x ∧ x ≠ X 8 ∧ x ≠ X 11 ∧ x ≠ X 1 ∧ x ≠ X 2) ∧ sep O2 ((ovM X F η).map fun q => (YO C B H q.1, q.2))
def tkO (C : YC) (B : Nat → Prop) (X : Nat → Nat) (H : YS) (σ : Ps) : Prop := (∃ a, yR H 1804 (X 8) = some a ∧ TokY C B H a (pc σ)) ∧ (∃ a, yR H 1805 (X 8) = some a ∧ TokY C B H a (pk σ)) ∧ (pc σ).1 ≤ 6 ∧ (pk σ).1 ≤ 6 ∧ (pc σ).2.2.1.length ≤ 200 ∧ (pk σ).2.2.1.length ≤ 200
def PsB (C : YC) (B : Nat → Prop) (X : Nat → Nat) (t : List Int) (H : YS) (σ : Ps) (η : Et) : Prop :=
  PB0 C B X H (pd σ) (pF σ) η ∧ tkO C B X H σ ∧ Lt X H t (pi' σ) ∧ (∃ KW, LnY B X H KW (ec η) ∧ KW.length ≤ pn σ + (if (pk σ).1 = 6 then 1 else 0)) ∧ yI H 2405 (X 0) = (pn σ : Int) ∧ pn σ ≤ 1000 ∧ ((2 * pq σ ≤ 3 * (pc σ).2.1 ∧ (pc σ).2.1 + tlen (pc σ) ≤ (pk σ).2.1 ∧ (pk σ).2.1 + tlen (pk σ) ≤ pi' σ) ∧ (pF σ).length ≤ 100000 + pq σ)
/-- where a run began: heap, owner's cells, numbers -/
abbrev Gm : Type := YS × (Nat → Prop) × Int × Int × Nat
abbrev Gu (Γ : Gm) (n : Nat) : Gm := (Γ.1, Γ.2.1, Γ.2.2.1, Γ.2.2.2.1, n)
def SS (C : YC) (B : Nat → Prop) (X : Nat → Nat) (t : List Int) (Γ : Gm) (H : YS) (σ : Ps) (η : Et) (M : List (Gt × Option Nat)) (g h : Int) : Prop :=
  PsB C B X t H σ η ∧ Lv C B (ynx Γ.1) (eO η) H M ∧ yEx Γ.2.1 (ynx H - ynx Γ.1) (ysl H - ysl Γ.1) Γ.1 H ∧ (∀ x, x < ynx Γ.1 → eO η x → Γ.2.1 x) ∧
  (ynx H : Int) + Γ.2.2.1 + ccV (eV η) ≤ 80 * pq σ + pi' σ + g ∧ (ysl H : Int) + Γ.2.2.2.1 + crV (eV η) ≤ 500 * pq σ + 8 * pi' σ + 4 * (ec η + es η + ev η) + h ∧ veN (eV η) ≤ pq σ + Γ.2.2.2.2 ∧ Γ.2.2.2.2 ≤ 10 ∧ (et η = true ↔ 5 ≤ Γ.2.2.2.2)
/-- something was thrown: e, at p -/
def Th (C : YC) (B : Nat → Prop) (X : Nat → Nat) (t : List Int) (Γ : Gm) (H : YS) (e : Int) (p : Nat) : Prop :=
  ∃ dp F η j KW, PB0 C B X H dp F η ∧ Lt X H t j ∧ LnY B X H KW (ec η) ∧ KW.length ≤ 1002 ∧ yI H 301 (X 3) = e ∧ yI H 302 (X 3) = (p : Int) ∧ yEx Γ.2.1 (ynx H - ynx Γ.1) (ysl H - ysl Γ.1) Γ.1 H ∧ (∀ x, x < ynx Γ.1 → eO η x → Γ.2.1 x) ∧
  (ynx H : Int) + Γ.2.2.1 ≤ 122 * t.length + 5000 ∧ (ysl H : Int) + Γ.2.2.2.1 ≤ 766 * t.length + 4 * (ec η + es η + ev η) + 5000
