set_option maxRecDepth 100000
/-! THE HOUSE'S PARSER: all its methods at once, by fuel -/
theorem gred_len {p : Int} {o : Gt} {x : List Gt} (h : 2 ≤ x.length) : (gred p o x).length + 1 = x.length := by
  match x, h with
  | b :: a :: s, _ => rfl
theorem gred_40 {o : Gt} {x : List Gt} (h : 2 ≤ x.length) : ∃ τ s, gred 1 o x = τ :: s ∧ gk τ = 40 := by
  match x, h with
  | b :: a :: s, _ => exact ⟨_, s, rfl, by rw [if_neg (by decide), gk_gn]⟩
theorem gall_40 : ∀ (o x : List Gt), x.length = o.length + 1 → (∃ τ s, x = τ :: s ∧ gk τ = 40) → gk ((gall 1 x o).getD 0 (gl [])) = 40
  | [], x, _, ⟨τ, s, e, h⟩ => by rw [e]; exact h
  | o :: os, x, hl, _ => by
    have h2 : 2 ≤ x.length := by rw [hl, List.length_cons]; omega
    show gk ((gall 1 (gred 1 o x) os).getD 0 (gl [])) = 40
    refine gall_40 os _ ?_ (gred_40 h2)
    have := gred_len (p := 1) (o := o) h2
    rw [hl, List.length_cons] at this
    omega
theorem gall_ne {o x : List Gt} (hl : x.length = o.length + 1) (h0 : o ≠ []) : gk ((gall 1 x o).getD 0 (gl [])) = 40 := by
  match o, h0, hl with
  | o :: os, _, hl =>
    have h2 : 2 ≤ x.length := by rw [hl, List.length_cons]; omega
    show gk ((gall 1 (gred 1 o x) os).getD 0 (gl [])) = 40
    refine gall_40 os _ ?_ (gred_40 h2)
    have := gred_len (p := 1) (o := o) h2
    rw [hl, List.length_cons] at this
    omega
theorem gahd_len {p s r : Int} : ∀ {o x x1 o1 : List Gt}, x.length = o.length + 1 → gahd p s r x o = some (x1, o1) → x1.length = o1.length + 1
  | [], x, x1, o1, hl, h => by
    unfold gahd at h
    cases h
    exact hl
  | o :: os, x, x1, o1, hl, h => by
    unfold gahd at h
    split at h
    · cases h
    · split at h
      · have h2 : 2 ≤ x.length := by rw [hl, List.length_cons]; omega
        have := gred_len (p := p) (o := o) h2
        rw [hl, List.length_cons] at this
        exact gahd_len (by omega) h
      · cases h
        exact hl
theorem inf_40 {t : List Int} : ∀ (n : Nat) (x o : List Gt) (σ : Ps) (τ : Gt) (σ1 : Ps), sP t n 10 [1] [gl x, gl o] σ = some (.inr (τ, σ1)) → x.length = o.length + 1 → (o ≠ [] ∨ pSt (pF σ) (pc σ) ≠ none) → gk τ = 40 := by
  intro n
  induction n with
  | zero =>
    intro x o σ τ σ1 h
    cases h
  | succ n ih =>
    intro x o σ τ σ1 h hl ho
    have h : gInfR t 1 (sP t n) (gs (gl x)) (gs (gl o)) σ = some (.inr (τ, σ1)) := h
    rw [gs_gl, gs_gl] at h
    unfold gInfR at h
    rw [if_neg (by decide)] at h
    cases hs : pSt (pF σ) (pc σ) with
    | none =>
      rw [hs] at h
      cases h
      exact gall_ne hl (ho.resolve_right (fun q => q hs))
    | some q =>
      rw [hs] at h
      obtain ⟨s, r⟩ := q
      have h : (match gahd 1 s r x o with
        | none => pWr σ
        | some (x1, o1) => pT (pPass t σ) fun σ1 => pB (sP t n (if (1 : Int) = 0 then 11 else 24) [] [] σ1) fun b σ2 => sP t n 10 [1] [gl (b :: x1), gl (gop (pc σ) s r :: o1)] σ2) = some (.inr (τ, σ1)) := h
      cases ha : gahd 1 s r x o with
      | none => rw [ha] at h; cases h
      | some y =>
        obtain ⟨x1, o1⟩ := y
        rw [ha] at h
        have h : pT (pPass t σ) (fun σ1 => pB (sP t n (if (1 : Int) = 0 then 11 else 24) [] [] σ1) fun b σ2 => sP t n 10 [1] [gl (b :: x1), gl (gop (pc σ) s r :: o1)] σ2) = some (.inr (τ, σ1)) := h
        cases hp : pPass t σ with
        | inl e => rw [hp] at h; cases h
        | inr σ2 =>
          rw [hp] at h
          have h : pB (sP t n (if (1 : Int) = 0 then 11 else 24) [] [] σ2) (fun b σ2 => sP t n 10 [1] [gl (b :: x1), gl (gop (pc σ) s r :: o1)] σ2) = some (.inr (τ, σ1)) := h
          cases hb : sP t n (if (1 : Int) = 0 then 11 else 24) [] [] σ2 with
          | none => rw [hb] at h; cases h
          | some z =>
            rw [hb] at h
            match z, h with
            | .inr (b, σ3), h => exact ih _ _ σ3 τ σ1 h (by rw [List.length_cons, List.length_cons, gahd_len hl ha]) (Or.inl (fun q => by cases q))
theorem inf_id {t : List Int} {p : Int} (hp : p = 0 ∨ p = 1) (n : Nat) (a : Gt) (σ : Ps) (r : (Int × Nat) ⊕ (Gt × Ps)) (hs : (if p = 0 then pIx (pF σ) (pc σ) else pSt (pF σ) (pc σ)) = none) (h : sP t n 10 [p] [gl [a], gl []] σ = some r) : r = .inr (a, σ) := by
  cases n with
  | zero => cases h
  | succ n =>
    have h : gInfR t p (sP t n) (gs (gl [a])) (gs (gl [])) σ = some r := h
    rw [gs_gl, gs_gl] at h
    unfold gInfR at h
    rw [hs] at h
    cases h
    rfl
theorem arr_st {t : List Int} (n : Nat) : YSt (sP t n 31 [] []) (pIs · 42) := by
  refine ⟨fun σ r h hc => ?_, fun σ τ σ1 h hc => ?_⟩
  · cases n with
    | zero => cases h
    | succ n =>
      have h : gArrR t (sP t n) σ = some r := h
      unfold gArrR at h
      rw [if_neg hc] at h
      cases h; rfl
  · cases n with
    | zero => cases h
    | succ n =>
      have h : gArrR t (sP t n) σ = some (.inr (τ, σ1)) := h
      unfold gArrR at h
      rw [if_pos hc] at h
      cases hp : pPass t σ with
      | inl e => rw [hp] at h; cases h
      | inr σ2 =>
        rw [hp] at h
        have h : pB (sP t n 32 [] [] σ2) (fun b σ2 => cons1 b (sP t n 31 [] [] σ2)) = some (.inr (τ, σ1)) := h
        cases hb : sP t n 32 [] [] σ2 with
        | none => rw [hb] at h; cases h
        | some z =>
          rw [hb] at h
          match z, h with
          | .inr (b, σ3), h =>
            have h : cons1 b (sP t n 31 [] [] σ3) = some (.inr (τ, σ1)) := h
            unfold cons1 at h
            cases hc : sP t n 31 [] [] σ3 with
            | none => rw [hc] at h; cases h
            | some w =>
              rw [hc] at h
              match w, h with
              | .inr (l, σ4), h => cases h; rw [gs_gl]; exact fun q => by cases q
theorem tup_st {t : List Int} (n : Nat) : YSt (sP t n 33 [] []) (fun σ => tStar (pc σ)) := by
  refine ⟨fun σ r h hc => ?_, fun σ τ σ1 h hc => ?_⟩
  · cases n with
    | zero => cases h
    | succ n =>
      have h : gTupR t (sP t n) σ = some r := h
      unfold gTupR at h
      rw [if_neg hc] at h
      cases h; rfl
  · cases n with
    | zero => cases h
    | succ n =>
      have h : gTupR t (sP t n) σ = some (.inr (τ, σ1)) := h
      unfold gTupR at h
      rw [if_pos hc] at h
      cases hp : pPass t σ with
      | inl e => rw [hp] at h; cases h
      | inr σ2 =>
        rw [hp] at h
        have h : pB (sP t n 34 [] [] σ2) (fun b σ2 => cons1 b (sP t n 33 [] [] σ2)) = some (.inr (τ, σ1)) := h
        cases hb : sP t n 34 [] [] σ2 with
        | none => rw [hb] at h; cases h
        | some z =>
          rw [hb] at h
          match z, h with
          | .inr (b, σ3), h =>
            have h : cons1 b (sP t n 33 [] [] σ3) = some (.inr (τ, σ1)) := h
            unfold cons1 at h
            cases hc : sP t n 33 [] [] σ3 with
            | none => rw [hc] at h; cases h
            | some w =>
              rw [hc] at h
              match w, h with
              | .inr (l, σ4), h => cases h; rw [gs_gl]; exact fun q => by cases q
def YAll (C : YC) (B : Nat → Prop) (X : Nat → Nat) (t : List Int) (n : Nat) : Prop :=
  (YCf C B X t (sP t n 0 [] []) 140 10 ho okEx) ∧
  (YCf C B X t (nW (sP t n 1 [] [])) 142 9 ho okEx) ∧
  (YCl C B X t (sP t n 2 [] []) 143 11 imR (fun _ _ => True)) ∧
  (YCf C B X t (sP t n 3 [] []) 144 9 ho okEx) ∧
  (YLo C B X t (fun a => sP t n 4 [] [a]) 9 594 okbX) ∧
  (YCf C B X t (sP t n 5 [] []) 145 8 ho okEx) ∧
  (YLo C B X t (fun a => sP t n 6 [] [a]) 8 595 okbX) ∧
  (YCf C B X t (sP t n 7 [] []) 146 7 ho okEx) ∧
  (YLo C B X t (fun a => sP t n 8 [] [a]) 7 596 okbX) ∧
  (YCf C B X t (sP t n 9 [] []) 147 6 ho okEx) ∧
  (YCf C B X t (sP t n 9 [1] []) 111 9 ho okPa) ∧
  (YIn C B X t (fun x o => sP t n 10 [0] [gl x, gl o]) 6 597 pIx okRX) ∧
  (YIn C B X t (fun x o => sP t n 10 [1] [gl x, gl o]) 9 567 pSt okRP) ∧
  (YCf C B X t (sP t n 11 [] []) 148 5 ho okEx) ∧
  (YCf C B X t (sP t n 13 [] []) 149 4 ho okEx) ∧
  (YLo C B X t (fun a => sP t n 16 [] [a]) 10 591 okbX) ∧
  (YCf C B X t (sP t n 20 [] []) 109 10 ho okPa) ∧
  (YLo C B X t (fun a => sP t n 21 [] [a]) 10 1019 okB38) ∧
  (YCf C B X t (sP t n 24 [] []) 112 8 ho okPa) ∧
  (YCf C B X t (sP t n 25 [] []) 113 7 ho okPa) ∧
  (YCf C B X t (sP t n 30 [] []) 126 4 ho okTy) ∧
  (∀ p : Int, YLp C B X t (sP t n 31 [] []) 4 578 (fun a => [.inl p, zr a]) (fun l => oO 31 [] [oF 9301 (oL l)]) 0 8 30 200) ∧
  (YCf C B X t (sP t n 32 [] []) 127 3 ho okO') ∧
  (∀ p : Int, YLp C B X t (sP t n 33 [] []) 3 579 (fun a => [.inl p, zr a]) imTup 9 42 30 200) ∧
  (YCf C B X t (sP t n 34 [] []) 128 2 ho okO') ∧
  (YLo C B X t (fun a => sP t n 35 [] [a]) 2 580 okB) ∧
  (YCf C B X t (sP t n 36 [] []) 129 1 ho okO') ∧
  (YDc C B X t (sP t n 41 [] [])) ∧
  (YCe C B X t (sP t n 45 [] []) 159 13 ho (fun _ τ => okG (ho τ)))
section YJoin
variable {C : YC} {B : Nat → Prop} {X : Nat → Nat} {t : List Int}
theorem inf_e {n : Nat} {p : Int} : (fun x o => sP t (n + 1) 10 [p] [gl x, gl o]) = fun x o σ => gInfR t p (sP t n) x o σ := by
  funext x o σ
  show gInfR t p (sP t n) (gs (gl x)) (gs (gl o)) σ = _
  rw [gs_gl, gs_gl]
theorem YAll_0 : YAll C B X t 0 := by
  refine ⟨?_, ?_, ?_, ?_, ?_, ?_, ?_, ?_, ?_, ?_, ?_, ?_, ?_, ?_, ?_, ?_, ?_, ?_, ?_, ?_, ?_, ?_, ?_, ?_, ?_, ?_, ?_, ?_, ?_⟩
  all_goals first
    | (intro Γ H σ η M g h d Q r S hu hg hh hd he; cases he; done)
    | (intro Γ H σ η M g h d Q r S hu hg hh hd he; unfold nW at he; split at he <;> cases he; done)
    | (intro Γ H σ η M g h d Q r a ra b S hu hg hh hd ok he; cases he; done)
    | (intro Γ H σ η M g h d Q r cx co lx lo x cs m S hu hg hh hl hm hp hx hc hd he; cases he; done)
    | (intro p Γ H σ η M g h d Q r cap a l S hu hg hh hc hl hd he; cases he; done)
    | (intro Γ H σ η M g h d Q r cap l1 τs S hu hvl hg hh hc hl hd hdc he; cases he; done)
    | skip
theorem YAll_s (hlen : t.length ≤ 900) {n : Nat} (A : ∀ n', n' ≤ n → YAll C B X t n') : YAll C B X t (n + 1) := by
  obtain ⟨h0, h1, h2, h3, h4, h5, h6, h7, h8, h9, h9p, h10, h10p, h11, h13, h16, h20, h21, h24, h25, h30, h31, h32, h33, h34, h35, h36, h41, h45⟩ := A n (Nat.le_refl _)
  have k0 : ∀ n', n' ≤ n → YCf C B X t (sP t n' 0 [] []) 140 10 ho okEx := fun n' q => by obtain ⟨h0, h1, h2, h3, h4, h5, h6, h7, h8, h9, h9p, h10, h10p, h11, h13, h16, h20, h21, h24, h25, h30, h31, h32, h33, h34, h35, h36, h41, h45⟩ := A n' q; exact h0
  have k13 : ∀ n', n' ≤ n → YCf C B X t (sP t n' 13 [] []) 149 4 ho okEx := fun n' q => by obtain ⟨h0, h1, h2, h3, h4, h5, h6, h7, h8, h9, h9p, h10, h10p, h11, h13, h16, h20, h21, h24, h25, h30, h31, h32, h33, h34, h35, h36, h41, h45⟩ := A n' q; exact h13
  have k20 : ∀ n', n' ≤ n → YCf C B X t (sP t n' 20 [] []) 109 10 ho okPa := fun n' q => by obtain ⟨h0, h1, h2, h3, h4, h5, h6, h7, h8, h9, h9p, h10, h10p, h11, h13, h16, h20, h21, h24, h25, h30, h31, h32, h33, h34, h35, h36, h41, h45⟩ := A n' q; exact h20
  have k25 : ∀ n', n' ≤ n → YCf C B X t (sP t n' 25 [] []) 113 7 ho okPa := fun n' q => by obtain ⟨h0, h1, h2, h3, h4, h5, h6, h7, h8, h9, h9p, h10, h10p, h11, h13, h16, h20, h21, h24, h25, h30, h31, h32, h33, h34, h35, h36, h41, h45⟩ := A n' q; exact h25
  have k30 : ∀ n', n' ≤ n → YCf C B X t (sP t n' 30 [] []) 126 4 ho okTy := fun n' q => by obtain ⟨h0, h1, h2, h3, h4, h5, h6, h7, h8, h9, h9p, h10, h10p, h11, h13, h16, h20, h21, h24, h25, h30, h31, h32, h33, h34, h35, h36, h41, h45⟩ := A n' q; exact h30
  have k41 : ∀ n', n' < n → YDc C B X t (sP t n' 41 [] []) := fun n' q => by obtain ⟨h0, h1, h2, h3, h4, h5, h6, h7, h8, h9, h9p, h10, h10p, h11, h13, h16, h20, h21, h24, h25, h30, h31, h32, h33, h34, h35, h36, h41, h45⟩ := A n' (Nat.le_of_lt q); exact h41
  have k45 : ∀ n', n' < n → YCe C B X t (sP t n' 45 [] []) 159 13 ho (fun _ τ => okG (ho τ)) := fun n' q => by obtain ⟨h0, h1, h2, h3, h4, h5, h6, h7, h8, h9, h9p, h10, h10p, h11, h13, h16, h20, h21, h24, h25, h30, h31, h32, h33, h34, h35, h36, h41, h45⟩ := A n' (Nat.le_of_lt q); exact h45
  have at' : YCf C B X t (gAtP t (sP t n)) 113 7 ho okPa := y_atPat (y_bracketPat k20 hlen) (y_rowPat k30 k20 hlen) (y_listPat k20 hlen)
  refine ⟨?_, ?_, ?_, ?_, ?_, ?_, ?_, ?_, ?_, ?_, ?_, ?_, ?_, ?_, ?_, ?_, ?_, ?_, ?_, ?_, ?_, ?_, ?_, ?_, ?_, ?_, ?_, ?_, ?_⟩
  · exact y_exp h1 h3 h16
  · exact y_wide h0 h2
  · exact y_rules k20 k0 hlen
  · exact y_either h5 h4
  · exact y_eitherLoop h1 h5 h4
  · exact y_both h7 h6
  · exact y_bothLoop h1 h7 h6
  · exact y_typed h9 h8
  · exact y_typedLoop h30 h8
  · exact y_infixed h11 h10 hlen (fun a σ r hs h => inf_id (Or.inl rfl) n a σ r hs h)
  · exact y_consPat h24 h10p hlen (fun a σ r hs h => inf_id (Or.inr rfl) n a σ r hs h) (fun a σ τ σ1 h hs q => by have := inf_40 n _ _ σ τ σ1 h rfl (Or.inr hs); omega)
  · rw [inf_e]; exact y_infixedLoop h11 h10
  · rw [inf_e]; exact y_consPatLoop h24 h10p
  · exact y_app k13 hlen
  · exact y_atE (y_bracketE k0 hlen) (y_rowE k0 hlen) (y_listE k0 hlen) (y_let k0 k41 hlen)
  · exact y_expLoop h2 h16
  · exact y_pat h9p h30 h20 h21
  · exact y_patLoop h30 h21
  · exact y_appPat h25 (y_nmN at')
  · exact at'
  · exact y_ty h32 h31 (arr_st n) hlen
  · exact fun p => y_tyLoop (R' := sP t n) h32 h31 p
  · exact y_tuple h34 h33 (tup_st n) hlen
  · exact fun p => y_tupLoop h34 h33 p
  · exact y_suffix h36 h35
  · exact y_sufLoop h35
  · exact y_atTy k30 (y_rowTy k30 hlen) hlen
  · exact y_dec (y_value (fun n' q => k20 n' (Nat.le_of_lt q)) (fun n' q => k0 n' (Nat.le_of_lt q)) hlen) (y_functions k45 hlen) (y_type h30 hlen) (y_datatype (fun n' q => k30 n' (Nat.le_of_lt q)) hlen) (y_exception h30 hlen) (y_local k41 hlen) y_fixity
  · exact y_clause k25 k30 k0 hlen
theorem YAll_n (hlen : t.length ≤ 900) : ∀ n, YAll C B X t n := by
  have : ∀ n n', n' ≤ n → YAll C B X t n' := by
    intro n
    induction n with
    | zero => intro n' q; rw [Nat.le_zero.mp q]; exact YAll_0
    | succ n ih => intro n' q; exact (Nat.lt_or_ge n' (n + 1)).elim (fun w => ih n' (Nat.le_of_lt_succ w)) (fun w => by rw [Nat.le_antisymm q w]; exact YAll_s hlen ih)
  exact fun n => this n n (Nat.le_refl _)
end YJoin
