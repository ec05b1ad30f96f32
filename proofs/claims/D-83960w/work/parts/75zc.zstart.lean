set_option maxRecDepth 100000
/-! THE GRAMMAR: an expression begins where its first token does -/
def hB (b : Int) (x : PR) : Prop := ∀ τ σ1, x = some (.inr (τ, σ1)) → gbg τ = b
def gbl : List Gt → Int
  | [] => 0
  | x :: s => match s with
    | [] => gbg x
    | _ :: _ => gbl s
section ZStb
variable {t : List Int} {b : Int} {σ σ1 : Ps} {τ : Gt} {m n : Nat} {p s r : Int} {o : Gt}
theorem hB_R (h : gbg τ = b) : hB b (pR τ σ) := fun _ _ q => by cases q; exact h
theorem hB_W : hB b (pWr σ) := fun _ _ q => (by cases q)
theorem hB_E {e : Int × Nat} : hB b (some (.inl e)) := fun _ _ q => (by cases q)
theorem hB_0 : hB b none := fun _ _ q => (by cases q)
theorem hB_B {x : PR} {f : Gt → Ps → PR} (h : ∀ τ σ1, x = some (.inr (τ, σ1)) → hB b (f τ σ1)) : hB b (pB x f) := by
  rcases x with _ | _ | ⟨τ, σ⟩
  · exact hB_0
  · exact hB_E
  · exact h τ σ rfl
theorem hB_T {x : (Int × Nat) ⊕ Ps} {f : Ps → PR} (h : ∀ σ, hB b (f σ)) : hB b (pT x f) := by
  cases x with
  | inl e => exact hB_E
  | inr σ => exact h σ
theorem hB_I {c : Prop} {i : Decidable c} {x y : PR} (h1 : hB b x) (h2 : hB b y) : hB b (@ite PR c i x y) := by
  split
  · exact h1
  · exact h2
theorem hB_Op {f : Ps → PR} (h : ∀ σ, hB b (f σ)) : hB b (pOpens t σ f) := hB_I hB_E (hB_T h)
theorem hB_Cl {f : Ps → PR} (h : ∀ σ, hB b (f σ)) : hB b (pCloses t m σ f) := hB_I (hB_T h) hB_W
theorem hB_Nd {f : Ps → PR} (h : ∀ σ, hB b (f σ)) : hB b (pNeed t m σ f) := hB_I (hB_T h) hB_W
theorem hB_Nm {f : List Int → Ps → PR} (h : ∀ c σ, hB b (f c σ)) : hB b (pName t σ f) := hB_I (hB_T (h _)) hB_W
theorem hB_An {f : List Int → Ps → PR} (h : ∀ c σ, hB b (f c σ)) : hB b (pAny t σ f) := hB_I (hB_T (h _)) hB_W
theorem hB_On {f : Nat → List Int → Ps → PR} (h : ∀ q c σ, hB b (f q c σ)) : hB b (pOpn t σ f) := hB_I (hB_T fun _ => hB_An (h _)) (hB_Nm (h _))
theorem hB_Lb {f : List Int → Ps → PR} (h : ∀ c σ, hB b (f c σ)) : hB b (pLab t σ f) := hB_I (hB_I hB_W (hB_T (h _))) (hB_Nm h)
theorem gred_b {x : List Gt} (h : 2 ≤ x.length) : gbl (gred p o x) = gbl x := by
  match x, h with
  | b :: a :: [], _ => rfl
  | b :: a :: c :: s, _ => rfl
theorem gall_b : ∀ (o x : List Gt), x.length = o.length + 1 → gbg ((gall p x o).getD 0 (gl [])) = gbl x
  | [], x, h => by
    match x, h with
    | [a], _ => rfl
  | o :: os, x, h => by
    rw [List.length_cons] at h
    have h2 : 2 ≤ x.length := by omega
    have := gred_len (p := p) (o := o) h2
    show gbg ((gall p (gred p o x) os).getD 0 (gl [])) = _
    rw [gall_b os _ (by omega), gred_b h2]
theorem gahd_b : ∀ {o x x1 o1 : List Gt}, x.length = o.length + 1 → gahd p s r x o = some (x1, o1) → gbl x1 = gbl x
  | [], x, x1, o1, hl, h => by
    unfold gahd at h
    cases h
    rfl
  | o :: os, x, x1, o1, hl, h => by
    unfold gahd at h
    rw [List.length_cons] at hl
    split at h
    · cases h
    · split at h
      · have h2 : 2 ≤ x.length := by omega
        have := gred_len (p := p) (o := o) h2
        rw [gahd_b (by omega) h, gred_b h2]
      · cases h
        rfl
theorem gbl_c {b : Gt} {x : List Gt} (h : x ≠ []) : gbl (b :: x) = gbl x := by
  match x, h with
  | a :: s, _ => rfl
def SPb (t : List Int) (n : Nat) : Prop := (∀ k ∈ [0, 1, 3, 5, 7, 9, 11, 13], ∀ σ, hB ((pc σ).2.1 : Int) (sP t n k [] [] σ)) ∧ (∀ k ∈ [4, 6, 8, 16], ∀ e σ, hB (gbg e) (sP t n k [] [e] σ)) ∧ ∀ x o σ, x.length = o.length + 1 → hB (gbl x) (sP t n 10 [0] [gl x, gl o] σ)
theorem SPb_s (h : SPb t n) : SPb t (n + 1) := by
  obtain ⟨h1, h2, h3⟩ := h
  have k1 : ∀ k ∈ [0, 1, 3, 5, 7, 9, 11, 13], ∀ σ τ σ1, sP t n k [] [] σ = some (.inr (τ, σ1)) → gbg τ = ((pc σ).2.1 : Int) := fun k hk σ τ σ1 e => h1 k hk σ τ σ1 e
  refine ⟨zqc (fun σ => ?_) (zqc (fun σ => ?_) (zqc (fun σ => ?_) (zqc (fun σ => ?_) (zqc (fun σ => ?_) (zqc (fun σ => ?_) (zqc (fun σ => ?_) (zqc (fun σ => ?_) zqn))))))), zqc (fun e σ => ?_) (zqc (fun e σ => ?_) (zqc (fun e σ => ?_) (zqc (fun e σ => ?_) zqn))), fun x o σ hl => ?_⟩
  · show hB _ (gExp (sP t n) σ)
    unfold gExp
    refine hB_I (h1 1 (by decide) σ) (hB_B fun τ σ1 e => ?_)
    rw [← k1 3 (by decide) σ τ σ1 e]
    exact h2 16 (by decide) τ σ1
  · show hB _ (gWide t (sP t n) σ)
    unfold gWide
    exact hB_Op fun σ1 => hB_I (hB_B fun _ _ _ => hB_R rfl) (hB_I (hB_B fun _ _ _ => hB_Nd fun _ => hB_B fun _ _ _ => hB_Nd fun _ => hB_B fun _ _ _ => hB_R rfl) (hB_I (hB_B fun _ _ _ => hB_Nd fun _ => hB_B fun _ _ _ => hB_R rfl) (hB_I (hB_B fun _ _ _ => hB_Nd fun _ => hB_B fun _ _ _ => hB_R rfl) (hB_B fun _ _ _ => hB_R rfl))))
  · show hB _ (gEither (sP t n) σ)
    unfold gEither
    refine hB_B fun τ σ1 e => ?_
    rw [← k1 5 (by decide) σ τ σ1 e]
    exact h2 4 (by decide) τ σ1
  · show hB _ (gBoth (sP t n) σ)
    unfold gBoth
    refine hB_B fun τ σ1 e => ?_
    rw [← k1 7 (by decide) σ τ σ1 e]
    exact h2 6 (by decide) τ σ1
  · show hB _ (gTyped (sP t n) σ)
    unfold gTyped
    refine hB_B fun τ σ1 e => ?_
    rw [← k1 9 (by decide) σ τ σ1 e]
    exact h2 8 (by decide) τ σ1
  · show hB _ (gInf 0 (sP t n) σ)
    unfold gInf
    refine hB_B fun τ σ1 e => ?_
    rw [← k1 11 (by decide) σ τ σ1 e]
    exact h3 [τ] [] σ1 rfl
  · show hB _ (gApp (sP t n) σ)
    unfold gApp
    refine hB_B fun τ σ1 e => ?_
    rw [← k1 13 (by decide) σ τ σ1 e]
    exact hB_I (hB_B fun _ _ _ => hB_R rfl) (hB_R rfl)
  · show hB _ (gAt t (sP t n) σ)
    unfold gAt
    refine hB_I hB_W (hB_I (hB_T fun _ => hB_R rfl) (hB_I (hB_Op fun _ => hB_I (hB_Cl fun _ => hB_R rfl) (hB_B fun _ _ _ => hB_B fun _ _ _ => hB_Cl fun _ => hB_R ?_)) (hB_I (hB_Op fun _ => hB_B fun _ _ _ => hB_Cl fun _ => hB_R rfl) (hB_I (hB_Op fun _ => hB_B fun _ _ _ => hB_Cl fun _ => hB_R rfl) (hB_I (hB_Op fun _ => hB_B fun _ _ _ => hB_Nd fun _ => hB_B fun _ _ _ => hB_B fun _ _ _ => hB_Cl fun _ => hB_R rfl) (hB_I (hB_T fun _ => hB_Lb fun _ _ => hB_R rfl) (hB_On fun _ _ _ => hB_R rfl)))))))
    split
    · rfl
    · split <;> rfl
  · show hB _ (gEitherR t (sP t n) e σ)
    unfold gEitherR
    exact hB_I (hB_Op fun σ1 => hB_B fun b σ2 _ => h2 4 (by decide) (gn 14 [[gbg e]] [e, b]) _) (hB_R rfl)
  · show hB _ (gBothR t (sP t n) e σ)
    unfold gBothR
    exact hB_I (hB_Op fun σ1 => hB_B fun b σ2 _ => h2 6 (by decide) (gn 15 [[gbg e]] [e, b]) _) (hB_R rfl)
  · show hB _ (gTypedR t (sP t n) e σ)
    unfold gTypedR
    exact hB_I (hB_T fun σ1 => hB_B fun b σ2 _ => h2 8 (by decide) (gn 16 [[gbg e]] [e, b]) _) (hB_R rfl)
  · show hB _ (gHdl t (sP t n) e σ)
    unfold gHdl
    exact hB_I (hB_Op fun σ1 => hB_B fun b σ2 _ => h2 16 (by decide) (gn 13 [[gbg e, ((pc σ).2.1 : Int)]] [e, b]) _) (hB_R rfl)
  · show hB _ (gInfR t 0 (sP t n) (gs (gl x)) (gs (gl o)) σ)
    rw [gs_gl, gs_gl]
    unfold gInfR
    rw [if_pos rfl]
    cases hs : pIx (pF σ) (pc σ) with
    | none => exact hB_R (gall_b o x hl)
    | some q =>
      obtain ⟨s, r⟩ := q
      show hB _ (match gahd 0 s r x o with
        | none => pWr σ
        | some (x1, o1) => pT (pPass t σ) fun σ1 => pB (sP t n (if (0 : Int) = 0 then 11 else 24) [] [] σ1) fun b σ2 => sP t n 10 [0] [gl (b :: x1), gl (gop (pc σ) s r :: o1)] σ2)
      cases ha : gahd 0 s r x o with
      | none => exact hB_W
      | some y =>
        obtain ⟨x1, o1⟩ := y
        have l1 := gahd_len hl ha
        have b1 := gahd_b hl ha
        refine hB_T fun σ1 => hB_B fun c σ2 _ => ?_
        rw [← b1, ← gbl_c (b := c) (fun q => by rw [q] at l1; cases l1)]
        exact h3 (c :: x1) (gop (pc σ) s r :: o1) σ2 (by rw [List.length_cons, List.length_cons, l1])
theorem SPb_n : ∀ n, SPb t n
  | 0 => ⟨fun _ _ _ => hB_0, fun _ _ _ _ => hB_0, fun _ _ _ _ => hB_0⟩
  | n + 1 => SPb_s (SPb_n n)
end ZStb
