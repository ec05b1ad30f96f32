set_option maxRecDepth 100000
/-! TREES (a label, numbers and bytes, parts); THE GRAMMAR as a plain function, with fuel -/
abbrev Gt : Type := Lean.RArray (List (List Int))
def gtl : List Gt → Gt
  | [] => .leaf []
  | x :: xs => .branch 0 x (gtl xs)
def gn (k : Nat) (p : List (List Int)) (s : List Gt) : Gt := .branch k (.leaf p) (gtl s)
def gsp : Gt → List Gt
  | .leaf _ => []
  | .branch _ x r => x :: gsp r
def gk : Gt → Nat
  | .leaf _ => 0
  | .branch k _ _ => k
def gpl : Gt → List (List Int)
  | .leaf p => p
  | .branch _ _ _ => []
def gp : Gt → List (List Int)
  | .leaf _ => []
  | .branch _ l _ => gpl l
def gs : Gt → List Gt
  | .leaf _ => []
  | .branch _ _ r => gsp r
theorem gsp_gtl : ∀ s : List Gt, gsp (gtl s) = s
  | [] => rfl
  | x :: xs => congrArg (x :: ·) (gsp_gtl xs)
theorem gs_gn {k : Nat} {p : List (List Int)} {s : List Gt} : gs (gn k p s) = s := gsp_gtl s
theorem gk_gn {k : Nat} {p : List (List Int)} {s : List Gt} : gk (gn k p s) = k := rfl
theorem gp_gn {k : Nat} {p : List (List Int)} {s : List Gt} : gp (gn k p s) = p := rfl
def gfoldA {β : Type} (z : β) (f : Nat → List (List Int) → List (Gt × β) → β) : Gt → β × List (Gt × β)
  | .leaf _ => (z, [])
  | .branch k l r => (f k (gpl l) (gfoldA z f r).2, (l, (gfoldA z f l).1) :: (gfoldA z f r).2)
def gfold {β : Type} (z : β) (f : Nat → List (List Int) → List (Gt × β) → β) (t : Gt) : β := (gfoldA z f t).1
theorem gfoldA_tl {β : Type} {z : β} {f : Nat → List (List Int) → List (Gt × β) → β} : ∀ s : List Gt, (gfoldA z f (gtl s)).2 = s.map fun x => (x, gfold z f x)
  | [] => rfl
  | x :: xs => congrArg ((x, gfold z f x) :: ·) (gfoldA_tl xs)
theorem gfold_gn {β : Type} {z : β} {f : Nat → List (List Int) → List (Gt × β) → β} {k : Nat} {p : List (List Int)} {s : List Gt} : gfold z f (gn k p s) = f k p (s.map fun x => (x, gfold z f x)) := by
  show f k (gpl (.leaf p)) (gfoldA z f (gtl s)).2 = _
  rw [gfoldA_tl]; rfl
/-- first number; the same tree with another one -/
def gbg (τ : Gt) : Int := ((gp τ).getD 0 []).getD 0 0
def gsb (b : Int) (τ : Gt) : Gt := gn (gk τ) ((b :: ((gp τ).getD 0 []).drop 1) :: (gp τ).drop 1) (gs τ)
theorem gsb_gn {b b0 : Int} {k : Nat} {r : List Int} {ps : List (List Int)} {s : List Gt} : gsb b (gn k ((b0 :: r) :: ps) s) = gn k ((b :: r) :: ps) s := by
  unfold gsb
  rw [gs_gn, gp_gn]; rfl
theorem gbg_gn {b : Int} {k : Nat} {r : List Int} {ps : List (List Int)} {s : List Gt} : gbg (gn k ((b :: r) :: ps) s) = b := rfl
/-! a parser's state: the token at hand, the next one, how many were read, up to where, what is open, infix names (the latest first), steps -/
abbrev Ps : Type := Tok × Tok × Nat × Nat × Nat × List (List Int × Int × Int) × Nat
abbrev pc (σ : Ps) : Tok := σ.1
abbrev pk (σ : Ps) : Tok := σ.2.1
abbrev pn (σ : Ps) : Nat := σ.2.2.1
abbrev pi' (σ : Ps) : Nat := σ.2.2.2.1
abbrev pd (σ : Ps) : Nat := σ.2.2.2.2.1
abbrev pF (σ : Ps) : List (List Int × Int × Int) := σ.2.2.2.2.2.1
abbrev pq (σ : Ps) : Nat := σ.2.2.2.2.2.2
def psd (σ : Ps) (d : Nat) : Ps := (pc σ, pk σ, pn σ, pi' σ, d, pF σ, pq σ)
def psF (σ : Ps) (F : List (List Int × Int × Int)) : Ps := (pc σ, pk σ, pn σ, pi' σ, pd σ, F, pq σ)
abbrev PR : Type := Option ((Int × Nat) ⊕ (Gt × Ps))
abbrev PX : Type := Nat → List Int → List Gt → Ps → PR
def pB (x : PR) (f : Gt → Ps → PR) : PR := match x with
  | some (.inr (τ, σ)) => f τ σ
  | some (.inl e) => some (.inl e)
  | none => none
def pT (x : (Int × Nat) ⊕ Ps) (f : Ps → PR) : PR := match x with
  | .inr σ => f σ
  | .inl e => some (.inl e)
def pR (τ : Gt) (σ : Ps) : PR := some (.inr (τ, σ))
def pWr (σ : Ps) : PR := some (.inl (2, (pc σ).2.1))
def pPass (t : List Int) (σ : Ps) : (Int × Nat) ⊕ Ps := if (pk σ).1 = 6 then .inr (pk σ, pk σ, pn σ, pi' σ, pd σ, pF σ, pq σ + (if (pc σ).1 = 2 then 3 else 1)) else match sRead t (pn σ) (pi' σ) with
  | .inl e => .inl e
  | .inr (k', j) => .inr (pk σ, k', pn σ + (if k'.1 = 6 then 0 else 1), j, pd σ, pF σ, pq σ + (if (pc σ).1 = 2 then 3 else 1))
def kwd (m : Nat) : List Int := sKept.getD m []
abbrev tIs (c : Tok) (m : Nat) : Prop := c.1 = 0 ∧ c.2.2.1 = kwd m
abbrev pIs (σ : Ps) (m : Nat) : Prop := tIs (pc σ) m
def pNeed (t : List Int) (m : Nat) (σ : Ps) (f : Ps → PR) : PR := if pIs σ m then pT (pPass t σ) f else pWr σ
def pOpens (t : List Int) (σ : Ps) (f : Ps → PR) : PR := if pd σ = 40 then some (.inl (3, (pc σ).2.1)) else pT (pPass t (psd σ (pd σ + 1))) f
def pCloses (t : List Int) (m : Nat) (σ : Ps) (f : Ps → PR) : PR := if pIs σ m then pT (pPass t (psd σ (pd σ - 1))) f else pWr σ
def pFx (F : List (List Int × Int × Int)) (b : List Int) : Option (Int × Int) := match F.find? (fun x => decide (x.1 = b)) with
  | some x => if x.2.1 < 0 then none else some x.2
  | none => none
def pSt (F : List (List Int × Int × Int)) (c : Tok) : Option (Int × Int) := if c.1 = 1 then pFx F c.2.2.1 else none
def pIx (F : List (List Int × Int × Int)) (c : Tok) : Option (Int × Int) := if tIs c 40 then some (4, 0) else pSt F c
abbrev tNm (F : List (List Int × Int × Int)) (c : Tok) : Prop := c.1 = 1 ∧ pSt F c = none
abbrev tNf (F : List (List Int × Int × Int)) (c : Tok) : Prop := tIs c 20 ∨ tNm F c
abbrev tCon (c : Tok) : Prop := c.1 = 3 ∨ c.1 = 4 ∨ c.1 = 5
abbrev tAt (F : List (List Int × Int × Int)) (c : Tok) : Prop := tCon c ∨ tNm F c ∨ tIs c 20 ∨ tIs c 43 ∨ tIs c 32 ∨ tIs c 28 ∨ tIs c 30 ∨ tIs c 16
abbrev tAtP (F : List (List Int × Int × Int)) (c : Tok) : Prop := tIs c 37 ∨ tCon c ∨ tNf F c ∨ tIs c 32 ∨ tIs c 28 ∨ tIs c 30
abbrev tDec (c : Tok) : Prop := c.1 = 0 ∧ c.2.2.1 ∈ sDecls
abbrev tWide (c : Tok) : Prop := tIs c 22 ∨ tIs c 12 ∨ tIs c 27 ∨ tIs c 3 ∨ tIs c 9
abbrev tStar (c : Tok) : Prop := c.1 = 1 ∧ c.2.2.1 = [42]
abbrev tTyn (c : Tok) : Prop := c.1 = 1 ∧ c.2.2.1 ≠ [42]
def gname (b : List Int) : Gt := gn 99 [b] []
def gnb (τ : Gt) : List Int := (gp τ).getD 0 []
/-- a name; = too; with op or not infix; a label -/
def pName (t : List Int) (σ : Ps) (f : List Int → Ps → PR) : PR := if (pc σ).1 = 1 then pT (pPass t σ) (f (pc σ).2.2.1) else pWr σ
def pAny (t : List Int) (σ : Ps) (f : List Int → Ps → PR) : PR := if (pc σ).1 = 1 ∨ pIs σ 40 then pT (pPass t σ) (f (pc σ).2.2.1) else pWr σ
/-- op or not: place and name -/
def pOpn (t : List Int) (σ : Ps) (f : Nat → List Int → Ps → PR) : PR := if pIs σ 20 then pT (pPass t σ) (fun σ1 => pAny t σ1 (f (pc σ1).2.1)) else pName t σ (f (pc σ).2.1)
def pLab (t : List Int) (σ : Ps) (f : List Int → Ps → PR) : PR := if (pc σ).1 = 3 then (if (pc σ).2.2.1 = [126] ∨ (pc σ).2.2.2 < 1 ∨ 9 < (pc σ).2.2.2 then pWr σ else pT (pPass t σ) (f [48 + (pc σ).2.2.2])) else pName t σ f
/-- waiting names take their operands -/
def gop (c : Tok) (s r : Int) : Gt := gn 98 [[(c.2.1 : Int), s, r], c.2.2.1] []
def goS (o : Gt) : Int := (gnb o).getD 1 0
def goR (o : Gt) : Int := (gnb o).getD 2 0
def gred (p : Int) (o : Gt) : List Gt → List Gt
  | b :: a :: s => gn (if p = 0 then 7 else 40) [[gbg a, gbg o], (gp o).getD 1 []] [a, b] :: s
  | s => s
def gahd (p s r : Int) : List Gt → List Gt → Option (List Gt × List Gt)
  | x, [] => some (x, [])
  | x, o :: os => if goS o = s ∧ goR o ≠ r then none else if s < goS o ∨ (goS o = s ∧ goR o = 0) then gahd p s r (gred p o x) os else some (x, o :: os)
def gall (p : Int) : List Gt → List Gt → List Gt
  | x, [] => x
  | x, o :: os => gall p (gred p o x) os
def gl (s : List Gt) : Gt := gn 0 [] s
def cons1 (x : Gt) (r : PR) : PR := pB r fun l σ => pR (gl (x :: gs l)) σ
/-! expressions: 0 exp, 1 wide, 2 rules, 3 either, 4 its rest, 5 both, 6 its rest, 7 typed, 8 its rest, 9 infixed, 10 its rest, 11 app, 12 its rest, 13 at, 14 what stands behind a sign, 15 fields, 16 handles -/
def gExp (R : PX) (σ : Ps) : PR := if tWide (pc σ) then R 1 [] [] σ else pB (R 3 [] [] σ) fun e σ1 => R 16 [] [e] σ1
def gWide (t : List Int) (R : PX) (σ : Ps) : PR := pOpens t σ fun σ1 =>
  if pIs σ 22 then pB (R 0 [] [] σ1) fun e σ2 => pR (gn 8 [[((pc σ).2.1 : Int)]] [e]) (psd σ2 (pd σ2 - 1))
  else if pIs σ 12 then pB (R 0 [] [] σ1) fun a σ2 => pNeed t 24 σ2 fun σ3 => pB (R 0 [] [] σ3) fun b σ4 => pNeed t 6 σ4 fun σ5 => pB (R 0 [] [] σ5) fun c σ6 => pR (gn 9 [[((pc σ).2.1 : Int)]] [a, b, c]) (psd σ6 (pd σ6 - 1))
  else if pIs σ 27 then pB (R 0 [] [] σ1) fun a σ2 => pNeed t 5 σ2 fun σ3 => pB (R 0 [] [] σ3) fun b σ4 => pR (gn 10 [[((pc σ).2.1 : Int)]] [a, b]) (psd σ4 (pd σ4 - 1))
  else if pIs σ 3 then pB (R 0 [] [] σ1) fun a σ2 => pNeed t 19 σ2 fun σ3 => pB (R 2 [] [] σ3) fun m σ4 => pR (gn 11 [[((pc σ).2.1 : Int), ((pc σ).2.1 : Int)]] [a, m]) (psd σ4 (pd σ4 - 1))
  else pB (R 2 [] [] σ1) fun m σ2 => pR (gn 12 [[((pc σ).2.1 : Int), ((pc σ).2.1 : Int)]] [m]) (psd σ2 (pd σ2 - 1))
def gRules (t : List Int) (R : PX) (σ : Ps) : PR := pB (R 20 [] [] σ) fun p σ1 => pNeed t 41 σ1 fun σ2 => pB (R 0 [] [] σ2) fun e σ3 => if pIs σ3 39 then pT (pPass t σ3) fun σ4 => cons1 (gn 61 [] [p, e]) (R 2 [] [] σ4) else pR (gl [gn 61 [] [p, e]]) σ3
def gEither (R : PX) (σ : Ps) : PR := pB (R 5 [] [] σ) fun e σ1 => R 4 [] [e] σ1
def gEitherR (t : List Int) (R : PX) (e : Gt) (σ : Ps) : PR := if pIs σ 21 then pOpens t σ fun σ1 => pB (if tWide (pc σ1) then R 1 [] [] σ1 else R 5 [] [] σ1) fun b σ2 => R 4 [] [gn 14 [[gbg e]] [e, b]] (psd σ2 (pd σ2 - 1)) else pR e σ
def gBoth (R : PX) (σ : Ps) : PR := pB (R 7 [] [] σ) fun e σ1 => R 6 [] [e] σ1
def gBothR (t : List Int) (R : PX) (e : Gt) (σ : Ps) : PR := if pIs σ 1 then pOpens t σ fun σ1 => pB (if tWide (pc σ1) then R 1 [] [] σ1 else R 7 [] [] σ1) fun b σ2 => R 6 [] [gn 15 [[gbg e]] [e, b]] (psd σ2 (pd σ2 - 1)) else pR e σ
def gTyped (R : PX) (σ : Ps) : PR := pB (R 9 [] [] σ) fun e σ1 => R 8 [] [e] σ1
def gTypedR (t : List Int) (R : PX) (e : Gt) (σ : Ps) : PR := if pIs σ 38 then pT (pPass t σ) fun σ1 => pB (R 30 [] [] σ1) fun y σ2 => R 8 [] [gn 16 [[gbg e]] [e, y]] σ2 else pR e σ
/-- with infix names between: p 0 expressions, 1 patterns -/
def gInf (p : Int) (R : PX) (σ : Ps) : PR := pB (R (if p = 0 then 11 else 24) [] [] σ) fun a σ1 => R 10 [p] [gl [a], gl []] σ1
def gInfR (t : List Int) (p : Int) (R : PX) (x o : List Gt) (σ : Ps) : PR := match (if p = 0 then pIx (pF σ) (pc σ) else pSt (pF σ) (pc σ)) with
  | none => pR ((gall p x o).getD 0 (gl [])) σ
  | some (s, r) => match gahd p s r x o with
    | none => pWr σ
    | some (x1, o1) => pT (pPass t σ) fun σ1 => pB (R (if p = 0 then 11 else 24) [] [] σ1) fun b σ2 => R 10 [p] [gl (b :: x1), gl (gop (pc σ) s r :: o1)] σ2
def gApp (R : PX) (σ : Ps) : PR := pB (R 13 [] [] σ) fun f σ1 => if tAt (pF σ1) (pc σ1) then pB (R 12 [] [] σ1) fun l σ2 => pR (gn 6 [[gbg f]] (f :: gs l)) σ2 else pR f σ1
def gAppR (R : PX) (σ : Ps) : PR := if tAt (pF σ) (pc σ) then pB (R 13 [] [] σ) fun x σ1 => cons1 x (R 12 [] [] σ1) else pR (gl []) σ
/-- behind the first one: sign m and one more -/
def gSeq (t : List Int) (m k : Nat) (R : PX) (σ : Ps) : PR := if pIs σ m then pT (pPass t σ) fun σ1 => pB (R k [] [] σ1) fun e σ2 => cons1 e (R 14 [(m : Int), (k : Int)] [] σ2) else pR (gl []) σ
def gConst (t : List Int) (k : Nat) (σ : Ps) : PR := pT (pPass t σ) fun σ1 => pR (gn (k + ((pc σ).1 - 3)) [[((pc σ).2.1 : Int), (pc σ).2.2.2], (pc σ).2.2.1] []) σ1
def gFldE (t : List Int) (R : PX) (σ : Ps) : PR := pLab t σ fun l σ1 => pNeed t 40 σ1 fun σ2 => pB (R 0 [] [] σ2) fun e σ3 => if pIs σ3 34 then pT (pPass t σ3) fun σ4 => cons1 (gn 60 [[((pc σ).2.1 : Int)], l] [e]) (R 15 [] [] σ4) else pR (gl [gn 60 [[((pc σ).2.1 : Int)], l] [e]]) σ3
def gBrE (t : List Int) (R : PX) (σ : Ps) : PR := pOpens t σ fun σ1 =>
  if pIs σ1 29 then pCloses t 29 σ1 fun σ2 => pR (gn 20 [[((pc σ).2.1 : Int)]] []) σ2
  else pB (R 0 [] [] σ1) fun e σ2 => pB (R 14 [if pIs σ2 34 then 34 else 35, 0] [] σ2) fun l σ3 => pCloses t 29 σ3 fun σ4 =>
    pR (if gs l = [] then gsb (pc σ).2.1 e else if pIs σ2 34 then gn 20 [[((pc σ).2.1 : Int)]] (e :: gs l) else gn 17 [[((pc σ).2.1 : Int)]] (e :: gs l)) σ4
def gDecs0 (R : PX) (σ : Ps) : PR := if tDec (pc σ) then R 40 [0] [] σ else pR (gl []) σ
def gLet (t : List Int) (R : PX) (σ : Ps) : PR := pOpens t σ fun σ1 => pB (gDecs0 R σ1) fun ds σ2 => pNeed t 13 σ2 fun σ3 => pB (R 0 [] [] σ3) fun e σ4 => pB (R 14 [35, 0] [] σ4) fun l σ5 => pCloses t 7 σ5 fun σ6 => pR (gn 18 [[((pc σ).2.1 : Int)]] [gn 63 [] (gs ds), gl (e :: gs l)]) (psF σ6 (pF σ))
def gAt (t : List Int) (R : PX) (σ : Ps) : PR :=
  if ¬ tAt (pF σ) (pc σ) then pWr σ
  else if tCon (pc σ) then gConst t 90 σ
  else if pIs σ 28 then gBrE t R σ
  else if pIs σ 32 then pOpens t σ fun σ1 => pB (if pIs σ1 33 then pR (gl []) σ1 else R 15 [] [] σ1) fun l σ2 => pCloses t 33 σ2 fun σ3 => pR (gn 5 [[((pc σ).2.1 : Int)]] (gs l)) σ3
  else if pIs σ 30 then pOpens t σ fun σ1 => pB (if pIs σ1 31 then pR (gl []) σ1 else pB (R 0 [] [] σ1) fun e σ2 => cons1 e (R 14 [34, 0] [] σ2)) fun l σ3 => pCloses t 31 σ3 fun σ4 => pR (gn 19 [[((pc σ).2.1 : Int)]] (gs l)) σ4
  else if pIs σ 16 then gLet t R σ
  else if pIs σ 43 then pT (pPass t σ) fun σ1 => pLab t σ1 fun l σ2 => pR (gn 4 [[((pc σ).2.1 : Int), ((pc σ).2.1 : Int)], l] []) σ2
  else pOpn t σ fun q b σ1 => pR (gn 3 [[((pc σ).2.1 : Int), (q : Int)], b] []) σ1
def gHdl (t : List Int) (R : PX) (e : Gt) (σ : Ps) : PR := if pIs σ 11 then pOpens t σ fun σ1 => pB (R 2 [] [] σ1) fun m σ2 => R 16 [] [gn 13 [[gbg e, ((pc σ).2.1 : Int)]] [e, m]] (psd σ2 (pd σ2 - 1)) else pR e σ
/-! patterns: 20 pat, 21 types behind, 24 app, 25 at, 27 fields -/
def gPat (t : List Int) (R : PX) (σ : Ps) : PR := pB (R 9 [1] [] σ) fun p σ1 =>
  if pIs σ1 38 then pT (pPass t σ1) fun σ2 => pB (R 30 [] [] σ2) fun y σ3 =>
    if (tNf (pF σ) (pc σ) ∧ gk p = 31) ∧ pIs σ3 2 then pT (pPass t σ3) fun σ4 => pB (R 20 [] [] σ4) fun q σ5 => pR (gn 37 [[gbg p, ((gp p).getD 0 []).getD 1 0], (gp p).getD 1 []] [q, y]) σ5
    else R 21 [] [gn 38 [[gbg p]] [p, y]] σ3
  else if (tNf (pF σ) (pc σ) ∧ gk p = 31) ∧ pIs σ1 2 then pT (pPass t σ1) fun σ2 => pB (R 20 [] [] σ2) fun q σ3 => pR (gn 37 [[gbg p, ((gp p).getD 0 []).getD 1 0], (gp p).getD 1 []] [q]) σ3
  else pR p σ1
def gPatR (t : List Int) (R : PX) (p : Gt) (σ : Ps) : PR := if pIs σ 38 then pT (pPass t σ) fun σ1 => pB (R 30 [] [] σ1) fun y σ2 => R 21 [] [gn 38 [[gbg p]] [p, y]] σ2 else pR p σ
def gNmP (t : List Int) (σ : Ps) (f : Nat → List Int → Ps → PR) : PR := pOpn t σ f
def gAppP (t : List Int) (R : PX) (σ : Ps) : PR :=
  if tNf (pF σ) (pc σ) then pOpn t σ fun q b σ1 => if tAtP (pF σ1) (pc σ1) then pB (R 25 [] [] σ1) fun x σ2 => pR (gn 36 [[((pc σ).2.1 : Int), (q : Int)], b] [x]) σ2 else pR (gn 31 [[((pc σ).2.1 : Int), (q : Int), 0], b] []) σ1
  else R 25 [] [] σ
def gFldP (t : List Int) (R : PX) (σ : Ps) (f : Gt → Ps → PR) : PR := pLab t σ fun l σ1 =>
  if pIs σ1 40 then pT (pPass t σ1) fun σ2 => pB (R 20 [] [] σ2) fun p σ3 => f (gn 60 [[((pc σ).2.1 : Int)], l] [p]) σ3
  else if (pc σ).1 ≠ 1 then pWr σ1
  else pB (if pIs σ1 38 then pT (pPass t σ1) fun σ2 => pB (R 30 [] [] σ2) fun y σ3 => pR (gl [y]) σ3 else pR (gl []) σ1) fun ys σ4 =>
    if pIs σ4 2 then pT (pPass t σ4) fun σ5 => pB (R 20 [] [] σ5) fun q σ6 => f (gn 60 [[((pc σ).2.1 : Int)], l] [gn 37 [[((pc σ).2.1 : Int), ((pc σ).2.1 : Int)], l] (q :: gs ys)]) σ6
    else f (gn 60 [[((pc σ).2.1 : Int)], l] [if gs ys = [] then gn 31 [[((pc σ).2.1 : Int), ((pc σ).2.1 : Int), 1], l] [] else gn 38 [[((pc σ).2.1 : Int)]] (gn 31 [[((pc σ).2.1 : Int), ((pc σ).2.1 : Int), 1], l] [] :: gs ys)]) σ4
/-- a row's fields; first whether it is open -/
def gRowP (t : List Int) (R : PX) (σ : Ps) : PR := if pIs σ 36 then pT (pPass t σ) fun σ1 => pR (gn 1 [] []) σ1 else gFldP t R σ fun x σ1 => if pIs σ1 34 then pT (pPass t σ1) fun σ2 => pB (R 27 [] [] σ2) fun l σ3 => pR (gn (gk l) [] (x :: gs l)) σ3 else pR (gl [x]) σ1
def gAtP (t : List Int) (R : PX) (σ : Ps) : PR :=
  if ¬ tAtP (pF σ) (pc σ) then pWr σ
  else if pIs σ 37 then pT (pPass t σ) fun σ1 => pR (gn 30 [[((pc σ).2.1 : Int)]] []) σ1
  else if tCon (pc σ) then gConst t 32 σ
  else if pIs σ 28 then pOpens t σ fun σ1 => pB (if pIs σ1 29 then pR (gl []) σ1 else pB (R 20 [] [] σ1) fun e σ2 => cons1 e (R 14 [34, 20] [] σ2)) fun l σ3 => pCloses t 29 σ3 fun σ4 => pR (match gs l with | [p] => gsb (pc σ).2.1 p | s => gn 41 [[((pc σ).2.1 : Int)]] s) σ4
  else if pIs σ 32 then pOpens t σ fun σ1 => pB (if pIs σ1 33 then pR (gl []) σ1 else R 27 [] [] σ1) fun l σ2 => pCloses t 33 σ2 fun σ3 => pR (gn 35 [[((pc σ).2.1 : Int), (gk l : Int), ((pc σ).2.1 : Int)]] (gs l)) σ3
  else if pIs σ 30 then pOpens t σ fun σ1 => pB (if pIs σ1 31 then pR (gl []) σ1 else pB (R 20 [] [] σ1) fun e σ2 => cons1 e (R 14 [34, 20] [] σ2)) fun l σ3 => pCloses t 31 σ3 fun σ4 => pR (gn 39 [[((pc σ).2.1 : Int)]] (gs l)) σ4
  else pOpn t σ fun q b σ1 => pR (gn 31 [[((pc σ).2.1 : Int), (q : Int), 0], b] []) σ1
/-! types: 30 ty, 31 arrows behind, 32 tuple, 33 its rest, 34 suffix, 35 its rest, 36 at, 38 fields -/
def gTy (R : PX) (σ : Ps) : PR := pB (R 32 [] [] σ) fun a σ1 => pB (R 31 [] [] σ1) fun l σ2 => pR (if gs l = [] then a else gn 53 [] (a :: gs l)) σ2
def gArrR (t : List Int) (R : PX) (σ : Ps) : PR := if pIs σ 42 then pT (pPass t σ) fun σ1 => pB (R 32 [] [] σ1) fun b σ2 => cons1 b (R 31 [] [] σ2) else pR (gl []) σ
def gTup (R : PX) (σ : Ps) : PR := pB (R 34 [] [] σ) fun a σ1 => pB (R 33 [] [] σ1) fun l σ2 => pR (if gs l = [] then a else gn 54 [] (a :: gs l)) σ2
def gTupR (t : List Int) (R : PX) (σ : Ps) : PR := if tStar (pc σ) then pT (pPass t σ) fun σ1 => pB (R 34 [] [] σ1) fun b σ2 => cons1 b (R 33 [] [] σ2) else pR (gl []) σ
def gSuf (R : PX) (σ : Ps) : PR := pB (R 36 [] [] σ) fun a σ1 => R 35 [] [a] σ1
def gSufR (t : List Int) (R : PX) (a : Gt) (σ : Ps) : PR := if tTyn (pc σ) then pT (pPass t σ) fun σ1 => R 35 [] [gn 51 [[((pc σ).2.1 : Int)], (pc σ).2.2.1] [a]] σ1 else pR a σ
def gFldT (t : List Int) (R : PX) (σ : Ps) : PR := pLab t σ fun l σ1 => pNeed t 38 σ1 fun σ2 => pB (R 30 [] [] σ2) fun y σ3 => if pIs σ3 34 then pT (pPass t σ3) fun σ4 => cons1 (gn 60 [[((pc σ).2.1 : Int)], l] [y]) (R 38 [] [] σ4) else pR (gl [gn 60 [[((pc σ).2.1 : Int)], l] [y]]) σ3
def gNamed (t : List Int) (s : List Gt) (σ : Ps) : PR := if tTyn (pc σ) then pT (pPass t σ) fun σ1 => pR (gn 51 [[((pc σ).2.1 : Int)], (pc σ).2.2.1] s) σ1 else pWr σ
def gAtT (t : List Int) (R : PX) (σ : Ps) : PR :=
  if (pc σ).1 = 2 then pT (pPass t σ) fun σ1 => pR (gn 50 [[((pc σ).2.1 : Int)], (pc σ).2.2.1] []) σ1
  else if pIs σ 32 then pOpens t σ fun σ1 => pB (if pIs σ1 33 then pR (gl []) σ1 else R 38 [] [] σ1) fun l σ2 => pCloses t 33 σ2 fun σ3 => pR (gn 52 [] (gs l)) σ3
  else if pIs σ 28 then pOpens t σ fun σ1 => pB (R 30 [] [] σ1) fun a σ2 => pB (R 14 [34, 30] [] σ2) fun l σ3 => pCloses t 29 σ3 fun σ4 => if gs l = [] then pR a σ4 else gNamed t (a :: gs l) σ4
  else gNamed t [] σ
/-! declarations: 40 decs, 41 dec, 42 binds, 43 funs, 44 clauses, 46 a clause's patterns, 48 vars, 49 datatypes, 50 constructors, 51 infix names -/
def gDecs (t : List Int) (top : Int) (R : PX) (σ : Ps) : PR := pB (R 41 [] [] σ) fun x σ1 =>
  if pIs σ1 35 ∧ (top = 0 ∨ tDec (pk σ1)) then pT (pPass t σ1) fun σ2 => if tDec (pc σ2) then cons1 x (R 40 [top] [] σ2) else pWr σ2
  else if tDec (pc σ1) then cons1 x (R 40 [top] [] σ1) else pR (gl [x]) σ1
def gBinds (t : List Int) (R : PX) (σ : Ps) : PR := pB (R 20 [] [] σ) fun p σ1 => pNeed t 40 σ1 fun σ2 => pB (R 0 [] [] σ2) fun e σ3 => if pIs σ3 0 then pT (pPass t σ3) fun σ4 => cons1 (gn 78 [] [p, e]) (R 42 [] [] σ4) else pR (gl [gn 78 [] [p, e]]) σ3
def gClause (t : List Int) (R : PX) (σ : Ps) : PR := pB
  (if pIs σ 20 ∨ (tNm (pF σ) (pc σ) ∧ pSt (pF σ) (pk σ) = none) then pOpn t σ fun q b σ1 => pB (R 46 [] [] σ1) fun l σ2 => pR (gn 0 [[(q : Int)], b] (gs l)) σ2
    else pB (R 25 [] [] σ) fun a σ1 => if pSt (pF σ1) (pc σ1) = none then pWr σ1 else pT (pPass t σ1) fun σ2 => pB (R 25 [] [] σ2) fun b σ3 => pR (gn 0 [[((pc σ1).2.1 : Int)], (pc σ1).2.2.1] [gn 41 [[gbg a]] [a, b]]) σ3) fun h σ4 =>
  pB (if pIs σ4 38 then pT (pPass t σ4) fun σ5 => pB (R 30 [] [] σ5) fun y σ6 => pR (gl [y]) σ6 else pR (gl []) σ4) fun ys σ7 => pNeed t 40 σ7 fun σ8 => pB (R 0 [] [] σ8) fun e σ9 => pR (gn 80 (gp h) (gl (gs h) :: e :: gs ys)) σ9
def gPats (R : PX) (σ : Ps) : PR := pB (R 25 [] [] σ) fun p σ1 => if tAtP (pF σ1) (pc σ1) then cons1 p (R 46 [] [] σ1) else pR (gl [p]) σ1
def gClauses (t : List Int) (R : PX) (σ : Ps) : PR := pB (R 45 [] [] σ) fun c σ1 => if pIs σ1 39 then pT (pPass t σ1) fun σ2 => cons1 c (R 44 [] [] σ2) else pR (gl [c]) σ1
def gFuns (t : List Int) (R : PX) (σ : Ps) : PR := pB (R 44 [] [] σ) fun l σ1 => if pIs σ1 0 then pT (pPass t σ1) fun σ2 => cons1 (gn 79 [[((pc σ).2.1 : Int)]] (gs l)) (R 43 [] [] σ2) else pR (gl [gn 79 [[((pc σ).2.1 : Int)]] (gs l)]) σ1
def gVarsR (t : List Int) (m : Int) (R : PX) (σ : Ps) : PR := if (pc σ).1 ≠ 2 then pWr σ else if m = 8 then some (.inl (4, (pc σ).2.1)) else pT (pPass t σ) fun σ1 => if pIs σ1 34 then pT (pPass t σ1) fun σ2 => cons1 (gn 50 [[((pc σ).2.1 : Int)], (pc σ).2.2.1] []) (R 48 [m + 1] [] σ2) else pR (gl [gn 50 [[((pc σ).2.1 : Int)], (pc σ).2.2.1] []]) σ1
def gVars (t : List Int) (R : PX) (σ : Ps) : PR :=
  if (pc σ).1 = 2 then pT (pPass t σ) fun σ1 => pR (gl [gn 50 [[((pc σ).2.1 : Int)], (pc σ).2.2.1] []]) σ1
  else if pIs σ 28 then pOpens t σ fun σ1 => pB (R 48 [0] [] σ1) fun l σ2 => pCloses t 29 σ2 fun σ3 => pR (gl (gs l)) σ3
  else pR (gl []) σ
/-- a name that is bound: with op also = -/
def pBn (t : List Int) (σ : Ps) (f : Nat → List Int → Ps → PR) : PR := pOpn t σ f
def gOf (t : List Int) (R : PX) (σ : Ps) : PR := if pIs σ 19 then pT (pPass t σ) fun σ1 => pB (R 30 [] [] σ1) fun y σ2 => pR (gl [y]) σ2 else pR (gl []) σ
def gCons (t : List Int) (R : PX) (σ : Ps) : PR := pBn t σ fun q b σ1 => pB (gOf t R σ1) fun ys σ2 => if pIs σ2 39 then pT (pPass t σ2) fun σ3 => cons1 (gn 82 [[(q : Int)], b] (gs ys)) (R 50 [] [] σ3) else pR (gl [gn 82 [[(q : Int)], b] (gs ys)]) σ2
def gDatas (t : List Int) (R : PX) (σ : Ps) : PR := pB (R 47 [] [] σ) fun vs σ1 => pName t σ1 fun b σ2 => pNeed t 40 σ2 fun σ3 => pB (R 50 [] [] σ3) fun cs σ4 => if pIs σ4 0 then pT (pPass t σ4) fun σ5 => cons1 (gn 81 [[((pc σ1).2.1 : Int)], b] [gl (gs vs), gl (gs cs)]) (R 49 [] [] σ5) else pR (gl [gn 81 [[((pc σ1).2.1 : Int)], b] [gl (gs vs), gl (gs cs)]]) σ4
def gFixR (t : List Int) (s r : Int) (R : PX) (σ : Ps) : PR := pName t σ fun b σ1 => if (pc σ1).1 = 1 then R 51 [s, r] [] (psF σ1 ((b, s, r) :: pF σ1)) else pR (gn 83 [] []) (psF σ1 ((b, s, r) :: pF σ1))
def gDec (t : List Int) (R : PX) (σ : Ps) : PR :=
  if pIs σ 26 then pT (pPass t σ) fun σ1 => pB (if pIs σ1 23 then pT (pPass t σ1) fun σ2 => pR (gl []) σ2 else pR (gl []) σ1) fun _ σ2 => pB (R 42 [] [] σ2) fun l σ3 => pR (gn (if pIs σ1 23 then 71 else 70) [] (gs l)) σ3
  else if pIs σ 10 then pT (pPass t σ) fun σ1 => pB (R 43 [] [] σ1) fun l σ2 => pR (gn 72 [] (gs l)) σ2
  else if pIs σ 25 then pT (pPass t σ) fun σ1 => pB (R 47 [] [] σ1) fun vs σ2 => pName t σ2 fun b σ3 => pNeed t 40 σ3 fun σ4 => pB (R 30 [] [] σ4) fun y σ5 => pR (gn 73 [[((pc σ2).2.1 : Int)], b] (y :: gs vs)) σ5
  else if pIs σ 4 then pT (pPass t σ) fun σ1 => pB (R 49 [] [] σ1) fun l σ2 => pR (gn 74 [] (gs l)) σ2
  else if pIs σ 8 then pT (pPass t σ) fun σ1 => pBn t σ1 fun q b σ2 =>
    if pIs σ2 40 then pT (pPass t σ2) fun σ3 => pBn t σ3 fun q' b' σ4 => pR (gn 76 [[(q : Int), (q' : Int)], b, b'] []) σ4
    else pB (gOf t R σ2) fun ys σ3 => pR (gn 75 [[(q : Int)], b] (gs ys)) σ3
  else if pIs σ 17 then pOpens t σ fun σ1 => pB (gDecs0 R σ1) fun a σ2 => pNeed t 13 σ2 fun σ3 => pB (gDecs0 R σ3) fun b σ4 => pCloses t 7 σ4 fun σ5 => pR (gn 77 [] [gn 63 [] (gs a), gn 63 [] (gs b)]) (psF σ5 (pF σ))
  else pT (pPass t σ) fun σ1 => if pIs σ 18 then R 51 [-1, 0] [] σ1 else if (pc σ1).1 = 3 then (if (pc σ1).2.2.1 = [126] ∨ 9 < (pc σ1).2.2.2 then pWr σ1 else pT (pPass t σ1) fun σ2 => R 51 [(pc σ1).2.2.2, if pIs σ 15 then 1 else 0] [] σ2) else R 51 [0, if pIs σ 15 then 1 else 0] [] σ1
def gIt : List Int := [105, 116]
/-- the whole of it, the first two tokens read -/
def gInput (t : List Int) (R : PX) (σ : Ps) : PR := pB (if tDec (pc σ) then R 40 [1] [] σ else pB (R 0 [] [] σ) fun e σ1 => pR (gl [gn 70 [] [gn 78 [] [gn 31 [[((pc σ).2.1 : Int), ((pc σ).2.1 : Int), 0], gIt] [], e]]]) σ1) fun l σ1 =>
  pB (if pIs σ1 35 then pT (pPass t σ1) fun σ2 => pR l σ2 else pR l σ1) fun l σ2 => if (pc σ2).1 = 6 then pR l σ2 else pWr σ2
def sP (t : List Int) : Nat → PX
  | 0, _, _, _, _ => none
  | n + 1, tag, a, s, σ => match tag with
    | 0 => gExp (sP t n) σ
    | 1 => gWide t (sP t n) σ
    | 2 => gRules t (sP t n) σ
    | 3 => gEither (sP t n) σ
    | 4 => gEitherR t (sP t n) (s.getD 0 (gl [])) σ
    | 5 => gBoth (sP t n) σ
    | 6 => gBothR t (sP t n) (s.getD 0 (gl [])) σ
    | 7 => gTyped (sP t n) σ
    | 8 => gTypedR t (sP t n) (s.getD 0 (gl [])) σ
    | 9 => gInf (a.getD 0 0) (sP t n) σ
    | 10 => gInfR t (a.getD 0 0) (sP t n) (gs (s.getD 0 (gl []))) (gs (s.getD 1 (gl []))) σ
    | 11 => gApp (sP t n) σ
    | 12 => gAppR (sP t n) σ
    | 13 => gAt t (sP t n) σ
    | 14 => gSeq t (a.getD 0 0).toNat (a.getD 1 0).toNat (sP t n) σ
    | 15 => gFldE t (sP t n) σ
    | 16 => gHdl t (sP t n) (s.getD 0 (gl [])) σ
    | 20 => gPat t (sP t n) σ
    | 21 => gPatR t (sP t n) (s.getD 0 (gl [])) σ
    | 24 => gAppP t (sP t n) σ
    | 25 => gAtP t (sP t n) σ
    | 27 => gRowP t (sP t n) σ
    | 30 => gTy (sP t n) σ
    | 31 => gArrR t (sP t n) σ
    | 32 => gTup (sP t n) σ
    | 33 => gTupR t (sP t n) σ
    | 34 => gSuf (sP t n) σ
    | 35 => gSufR t (sP t n) (s.getD 0 (gl [])) σ
    | 36 => gAtT t (sP t n) σ
    | 38 => gFldT t (sP t n) σ
    | 40 => gDecs t (a.getD 0 0) (sP t n) σ
    | 41 => gDec t (sP t n) σ
    | 42 => gBinds t (sP t n) σ
    | 43 => gFuns t (sP t n) σ
    | 44 => gClauses t (sP t n) σ
    | 45 => gClause t (sP t n) σ
    | 46 => gPats (sP t n) σ
    | 47 => gVars t (sP t n) σ
    | 48 => gVarsR t (a.getD 0 0) (sP t n) σ
    | 49 => gDatas t (sP t n) σ
    | 50 => gCons t (sP t n) σ
    | 51 => gFixR t (a.getD 0 0) (a.getD 1 0) (sP t n) σ
    | 60 => gInput t (sP t n) σ
    | _ => none
