set_option maxRecDepth 100000
/-! THE REFERENCE'S PARSER: rows of patterns, atomic patterns -/
section ZPt2
variable {t : List Int} {Γ : Zg} {S S' : ZS} {σ σ1 : Ps} {W W' : List (List Int)} {M : Zm} {g g' : Int} {d n tag : Nat} {Q : Option (Option ZV) → ZS → Prop} {r : (Int × Nat) ⊕ (Gt × Ps)} {I : List Zi} {A : List Int × List (Int × Int × Int)} {K : List Zk} {cs : List Gt} {x y z p x2 : Int} {τ : Gt} {R : PX} {o : ZO} {lo hi : Int}
theorem gFldP_f {f : Gt → Ps → PR} : gFldP t R σ f = pB (gFldP t R σ pR) f := by
  unfold gFldP
  simp only [pB_pT, pB_ite, pB_pR, pB_pWr, pB_in, pB_ass, pB_pNeed, pB_pOpens, pB_pCloses, pB_pName, pB_pAny, pB_pOpn, pB_pLab, gs_gl, cons1]
/-- a pattern with its type, made in either order -/
theorem zW_node38 {kk : Int → ZS → ZR ZS} {pl nm x5 xa xb : Int} {M0 : List Zi} {a b : Gt} (ord : Bool) (hd : 1 ≤ d) (Z : ZZ t Γ S σ W (if ord then ([b], xb, xb) :: ([a], xa, xa) :: M0 else ([a], xa, xa) :: ([b], xb, xb) :: M0, A, K) g) (hg : g ≤ 185) (hh : ∀ c S1, ZZ t Γ S1 σ W (([gn 38 [[pl]] [a, b]], c, c) :: M0, A, K) (g + 1) → zW (kk c S1) Q) : zW (zI (zc ZL d 52 [.inl 38, .inl pl, .inl nm, .inl xa, .inl xb, .inl x5] S) kk) Q := by
  cases ord with
  | true =>
    refine zW_nodeG (M0 := M0) [([a], xa, xa), ([b], xb, xb)] 38 [[pl]] [a, b] hd Z hg ⟨by decide, by decide, fun z => absurd z (by decide)⟩ (fun o c m e1 e2 hs hm => ?_) hh
    unfold zrtB
    rw [if_neg (by decide), if_neg (by decide), if_neg (by decide), if_neg (by decide), if_pos (Or.inl rfl)]
    exact ⟨e1 0 (by omega), fun _ => e1 1 (by omega), Or.inl (zpts_fit e1 _ _ (by decide) hs ⟨⟨a, rfl, rfl⟩, rfl, ⟨b, rfl, rfl⟩, rfl, rfl⟩)⟩
  | false =>
    refine zW_nodeG (M0 := M0) [([b], xb, xb), ([a], xa, xa)] 38 [[pl]] [a, b] hd Z hg ⟨by decide, by decide, fun z => absurd z (by decide)⟩ (fun o c m e1 e2 hs hm => ?_) hh
    unfold zrtB
    rw [if_neg (by decide), if_neg (by decide), if_neg (by decide), if_neg (by decide), if_pos (Or.inl rfl)]
    exact ⟨e1 0 (by omega), fun _ => e1 1 (by omega), Or.inr (zpts_fit e1 _ _ (by decide) hs ⟨⟨b, rfl, rfl⟩, rfl, ⟨a, rfl, rfl⟩, rfl, rfl⟩)⟩
theorem zW_node78 {kk : Int → ZS → ZR ZS} {pl nm x5 xa xb : Int} {M0 : List Zi} {a b : Gt} (ord : Bool) (hd : 1 ≤ d) (Z : ZZ t Γ S σ W (if ord then ([b], xb, xb) :: ([a], xa, xa) :: M0 else ([a], xa, xa) :: ([b], xb, xb) :: M0, A, K) g) (hg : g ≤ 185) (hh : ∀ c S1, ZZ t Γ S1 σ W (([gn 78 [] [a, b]], c, c) :: M0, A, K) (g + 1) → zW (kk c S1) Q) : zW (zI (zc ZL d 52 [.inl 78, .inl pl, .inl nm, .inl xa, .inl xb, .inl x5] S) kk) Q := by
  cases ord with
  | true =>
    refine zW_nodeG (M0 := M0) [([a], xa, xa), ([b], xb, xb)] 78 [] [a, b] hd Z hg ⟨by decide, by decide, fun z => absurd z (by decide)⟩ (fun o c m e1 e2 hs hm => ?_) hh
    unfold zrtB
    rw [if_neg (by decide), if_neg (by decide), if_neg (by decide), if_neg (by decide), if_pos (Or.inr rfl)]
    exact ⟨e1 0 (by omega), fun z => absurd z (by decide), Or.inl (zpts_fit e1 _ _ (by decide) hs ⟨⟨a, rfl, rfl⟩, rfl, ⟨b, rfl, rfl⟩, rfl, rfl⟩)⟩
  | false =>
    refine zW_nodeG (M0 := M0) [([b], xb, xb), ([a], xa, xa)] 78 [] [a, b] hd Z hg ⟨by decide, by decide, fun z => absurd z (by decide)⟩ (fun o c m e1 e2 hs hm => ?_) hh
    unfold zrtB
    rw [if_neg (by decide), if_neg (by decide), if_neg (by decide), if_neg (by decide), if_pos (Or.inr rfl)]
    exact ⟨e1 0 (by omega), fun z => absurd z (by decide), Or.inr (zpts_fit e1 _ _ (by decide) hs ⟨⟨b, rfl, rfl⟩, rfl, ⟨a, rfl, rfl⟩, rfl, rfl⟩)⟩
theorem zr_fldEnd {b : List Int} {ys : List Gt} {x3 : Int} (h20 : ZCf t (R 20 [] []) 55 noA 7 one okP) (hd : dep t σ + 6 ≤ d) (Z : ZZ t Γ S σ W ((ys, x, y) :: I, A, kN x3 b :: kL x3 b :: K) g) (hy : ys = [] ∨ ∃ c, ys = [c]) (hg : g ≤ 150) (he : (if pIs σ 2 then pT (pPass t σ) fun σ5 => pB (R 20 [] [] σ5) fun q σ6 => pR (gn 60 [[p], b] [gn 37 [[p, p], b] (q :: ys)]) σ6 else pR (gn 60 [[p], b] [if ys = [] then gn 31 [[p, p, 1], b] [] else gn 38 [[p]] (gn 31 [[p, p, 1], b] [] :: ys)]) σ) = some r) (her : ∀ e p S', r = .inl (e, p) → ThZ t Γ S' e p → Q none S') (hk : ∀ τ σ1 S1 W1 a y', r = .inr (τ, σ1) → ZZ t Γ S1 σ1 W1 (([τ], a, y') :: I, A, K) (if ys = [] then g + 2 else g + 3) → Qx t 0 0 σ σ1 → Q (some (some (.inl a))) S1) : zW (ZL d 601 [.inl p, .inl x3, .inl x] S) Q := by
  have d40 := dep_40z Z
  refine zl_patternField_p75 ?_
  unfold zb_patternField_p75
  have fin : ∀ {τ : Gt} {σ1 : Ps} {S1 : ZS} {W1 : List (List Int)} {a g1 : Int}, ZZ t Γ S1 σ1 W1 (([τ], a, a) :: I, A, kL x3 b :: K) g1 → g1 + 1 ≤ (if ys = [] then g + 2 else g + 3) → g ≤ 150 → r = .inr (gn 60 [[p], b] [τ], σ1) → Qx t 0 0 σ σ1 → zW (ZL d 714 [.inl p, .inl x3, .inl a] S1) Q := by
    intro τ σ1 S1 W1 a g1 Z1 hg1 hg hr q1
    have hg2 : g1 ≤ 155 := by revert hg1; split <;> (intro hg1; omega)
    obtain ⟨hl, Z1⟩ := zK_f Z1
    refine zl_patternField_p137 ?_
    unfold zb_patternField_p137
    exact zW_nodeZ (M0 := I) [([τ], a, a)] 60 [[p], b] [τ] (by omega) Z1 (by omega) (by decide) rfl (zqc rfl (zqc hl zqn)) ⟨⟨_, rfl, rfl⟩, rfl, rfl⟩ (fun f S4 Z4 => zW_rI (hk _ σ1 S4 W1 f f hr (ZZ_mono Z4 (by omega)) q1))
  refine zW_hasZ 2 (by decide) (by omega) Z (by omega) he her (fun w he => zW_t rfl ?_) (fun w σ1 S1 W1 Z1 p1 he => zW_f (by decide) ?_)
  · obtain ⟨hn, Z1⟩ := zK_t Z
    refine zW_nodeZ (M0 := (ys, x, y) :: I) [] 31 [[p, p, 1], b] [] (by omega) Z1 (by omega) (by decide) rfl (zqc rfl (zqc hn (zqc rfl (zqc rfl (zqc rfl zqn))))) rfl (fun f S4 Z4 => zW_let ?_)
    rcases hy with rfl | ⟨c, rfl⟩
    · have ex : x = -1 := by
        obtain ⟨m, m1, m2, m3⟩ := Z.2.2.2.2.2.1
        exact m2.1.1
      rw [if_pos rfl] at he
      exact zW_t ex (fin (ZZ_e1 Z4) (by rw [if_pos rfl]; omega) hg (Option.some.inj he).symm Qx_0)
    · have h0 := ZZ_x0 Z (List.cons_ne_nil _ _)
      rw [if_neg (List.cons_ne_nil _ _)] at he
      have ey : y = x := by
        obtain ⟨m, m1, m2, m3⟩ := Z.2.2.2.2.2.1
        exact m2.2
      subst ey
      exact zW_f (by omega) (zW_node38 false (by omega) Z4 (by omega) (fun f2 S5 Z5 => zW_let (fin Z5 (by rw [if_neg (List.cons_ne_nil _ _)]; omega) hg (Option.some.inj he).symm Qx_0)))
  · have q1 := Qx_p p1
    have dl1 := dep_le q1
    refine zW_subZ h20 (by omega) Z1 (by omega) rfl he her (fun τ σ3 S3 W3 a Z3 _ q3 he => ?_)
    have q3 := Qx_to (Qx_t q1 q3) (k' := 0) (m' := 0) (by omega) (by omega)
    obtain ⟨hn, Z3⟩ := zK_t Z3
    exact zW_nodeZ (M0 := I) [(ys, x, y), ([τ], a, a)] 37 [[p, p], b] (τ :: ys) (by omega) Z3 (by omega) (by decide) rfl (zqc rfl (zqc hn (zqc rfl zqn))) ⟨rfl, rfl, ⟨τ, rfl, rfl⟩, rfl, rfl⟩ (fun f S4 Z4 => zW_let (fin Z4 (by split <;> omega) hg (Option.some.inj he).symm q3))
theorem zr_fldP (h20 : ZCf t (R 20 [] []) 55 noA 7 one okP) (h30 : ZCf t (R 30 [] []) 69 noA 4 one okA) : ZCf t (fun σ => gFldP t R σ pR) 66 noA 5 one okA := by
  intro Γ S σ W M g d Q r Z hg hd he her hk
  obtain ⟨I, A, K⟩ := M
  have d40 := dep_40z Z
  have e17 := ZZ_c Z
  have he : gFldP t R σ pR = some r := he
  unfold gFldP at he
  refine zl_patternField ?_
  unfold zb_patternField
  have go : zW (ZL d 382 [.inl (S.1 18), .inl (if (pc σ).1 = 1 then 1 else 0)] S) Q := by
    refine zl_patternField_p18 ?_
    unfold zb_patternField_p18
    rw [e17.2]
    refine zW_let (zW_labZ (by omega) Z (by omega) he her (fun σ1 S1 W1 l b hb Z1 p1 he => zW_let ?_))
    have q1 := Qx_p p1
    have dl1 := dep_le q1
    refine zW_hasZ 40 (by decide) (by omega) Z1 (by omega) he her (fun _ he => zW_t rfl ?_) (fun _ σ2 S2 W2 Z2 p2 he => zW_f (by decide) ?_)
    · by_cases h1 : (pc σ).1 = 1
      · rw [if_pos h1]
        rw [if_neg (fun z => z h1)] at he
        obtain ⟨hn, hbb⟩ := hb h1
        rw [← hbb] at hn
        have Z1 := ZZ_k (q := kN l b) Z1 hn
        refine zW_f (by decide) (zW_let ?_)
        simp only [pB_pT, pB_ite, pB_pR, pB_pWr, pB_in, pB_ass, pB_pNeed, pB_pOpens, pB_pCloses, pB_pName, pB_pAny, pB_pOpn, pB_pLab, gs_gl, cons1] at he
        refine zW_hasZ 38 (by decide) (by omega) Z1 (by omega) he her (fun _ he => zW_t rfl ?_) (fun _ σ2 S2 W2 Z2 p2 he => zW_f (by decide) ?_)
        · exact zr_fldEnd (g := g - 4) h20 (by omega) (ZZ_e Z1) (Or.inl rfl) (by omega) he her (fun τ' σ7 S7 W7 a' y' w Z7 q7 => hk τ' σ7 S7 W7 a' y' w (ZZ_mono Z7 (by rw [if_pos rfl]; omega)) trivial (Qx_to (Qx_t q1 q7) (by omega) (by omega)))
        · have q2 := Qx_to (Qx_t q1 (Qx_p p2)) (k' := 0) (m' := 2) (by omega) (by omega)
          have dl2 := dep_le q2
          refine zW_subZ h30 (by omega) Z2 (by omega) rfl he her (fun τ σ3 S3 W3 a Z3 _ q3 he => zW_let ?_)
          have q3 := Qx_to (Qx_t q2 q3) (k' := 0) (m' := 3) (by omega) (by omega)
          have dl3 := dep_le q3
          exact zr_fldEnd h20 (by omega) Z3 (Or.inr ⟨_, rfl⟩) (by omega) he her (fun τ' σ7 S7 W7 a' y' w Z7 q7 => hk τ' σ7 S7 W7 a' y' w (ZZ_mono Z7 (by rw [if_neg (List.cons_ne_nil _ _)]; omega)) trivial (Qx_to (Qx_t q3 q7) (by omega) (by omega)))
      · rw [if_neg h1]
        rw [if_pos h1] at he
        refine zW_t rfl ?_
        rw [(ZZ_c Z1).2]
        exact zW_thr (her _ _ _ (Option.some.inj he).symm (ThZ_th Z1 (by omega)))
    · have q2 := Qx_to (Qx_t q1 (Qx_p p2)) (k' := 0) (m' := 2) (by omega) (by omega)
      have dl2 := dep_le q2
      refine zW_subZ h20 (by omega) Z2 (by omega) rfl he her (fun τ σ3 S3 W3 a Z3 _ q3 he => ?_)
      have q3 := Qx_to (Qx_t q2 q3) (k' := 0) (m' := 1) (by omega) (by omega)
      obtain ⟨hl, Z3⟩ := zK_f Z3
      exact zW_nodeZ (M0 := I) [([τ], a, a)] 60 [[((pc σ).2.1 : Int)], b] [τ] (by omega) Z3 (by omega) (by decide) rfl (zqc rfl (zqc hl zqn)) ⟨⟨_, rfl, rfl⟩, rfl, rfl⟩ (fun f S4 Z4 => zW_rI (hk _ σ3 S4 W3 f f (Option.some.inj he).symm (ZZ_mono Z4 (by omega)) trivial q3))
  refine zW_let (zW_if (fun w => ?_) (fun w => ?_))
  · rw [if_pos (by omega)] at go; exact go
  · rw [if_neg (by omega)] at go; exact go
/-- rows of fields -/
def ZL381 (t : List Int) (fs : Ps → PR) : Prop :=
  ∀ (Γ : Zg) (S : ZS) (σ : Ps) (W : List (List Int)) (cs : List Gt) (x y p z : Int) (I : List Zi) (A : List Int × List (Int × Int × Int)) (K : List Zk) (g : Int) (d : Nat) (Q : Option (Option ZV) → ZS → Prop) (r : (Int × Nat) ⊕ (Gt × Ps)), ZZ t Γ S σ W ((cs, x, y) :: I, A, K) g → 0 < pd σ → g ≤ 150 → dep t σ + 9 ≤ d → pB (fs σ) (fun l σ2 => pCloses t 33 σ2 fun σ3 => pR (gn 35 [[p, (gk l : Int), p]] (cs ++ gs l)) σ3) = some r →
    (∀ e p S', r = .inl (e, p) → ThZ t Γ S' e p → Q none S') →
    (∀ τ σ1 S1 W1 a y', r = .inr (τ, σ1) → ZZ t Γ S1 σ1 W1 (([τ], a, y') :: I, A, K) (g - 3) → gk τ ∈ kPa → Qx t (-1) 0 σ σ1 → Q (some (some (.inl a))) S1) → zW (ZL d 381 [.inl p, .inl x, .inl y, .inl 1, .inl z] S) Q
theorem zr_prowEnd {k : Nat} (hk1 : k = 0 ∨ k = 1) (hd : 8 ≤ d) (hp : 0 < pd σ) (Z : ZZ t Γ S σ W ((cs, x, y) :: I, A, K) g) (hg : g ≤ 160) (he : pCloses t 33 σ (fun σ3 => pR (gn 35 [[p, (k : Int), p]] cs) σ3) = some r) (her : ∀ e p S', r = .inl (e, p) → ThZ t Γ S' e p → Q none S') (hk : ∀ τ σ1 S1 W1 a y', r = .inr (τ, σ1) → ZZ t Γ S1 σ1 W1 (([τ], a, y') :: I, A, K) (g - 3) → gk τ ∈ kPa → Qx t (-1) 0 σ σ1 → Q (some (some (.inl a))) S1) : zW (ZL d 599 [.inl p, .inl x, .inl (k : Int)] S) Q := by
  refine zl_patternRow_p87 ?_
  unfold zb_patternRow_p87
  refine zW_closesZ 33 (by decide) hp (by omega) Z (by omega) he her (fun q σ1 S1 W1 Z1 p1 he => ?_)
  have q1 := Qx_to (Qx_o p1) (k' := -1) (m' := 0) (by omega) (by omega)
  rcases hk1 with rfl | rfl
  · exact zW_t rfl (zW_nodeZ (M0 := I) [(cs, x, y)] 35 [[p, 0, p]] cs (by omega) Z1 (by omega) (by decide) rfl (zqc rfl (zqc rfl (zqc rfl zqn))) ⟨rfl, rfl, rfl⟩ (fun a S2 Z2 => zW_rI (hk _ σ1 S2 W1 a a (Option.some.inj he).symm (ZZ_mono Z2 (by omega)) (by show 35 ∈ kPa; decide) q1)))
  · exact zW_f (by decide) (zW_nodeZ (M0 := I) [(cs, x, y)] 35 [[p, 1, p]] cs (by omega) Z1 (by omega) (by decide) rfl (zqc rfl (zqc rfl (zqc rfl zqn))) ⟨rfl, rfl, rfl⟩ (fun a S2 Z2 => zW_rI (hk _ σ1 S2 W1 a a (Option.some.inj he).symm (ZZ_mono Z2 (by omega)) (by show 35 ∈ kPa; decide) q1)))
theorem zr_prowL (h66 : ZCf t (fun σ => gFldP t R σ pR) 66 noA 5 one okA) (hL : ZL381 t (R 27 [] [])) : ZL381 t (gRowP t R) := by
  intro Γ S σ W cs x y p z I A K g d Q r Z hp hg hd he her hk
  have d40 := dep_40z Z
  unfold gRowP at he
  rw [gFldP_f] at he
  simp only [pB_pT, pB_ite, pB_pR, pB_pWr, pB_in, pB_ass, pB_pNeed, pB_pOpens, pB_pCloses, pB_pName, pB_pAny, pB_pOpn, pB_pLab, gs_gl, gs_gn, gk_gn, cons1] at he
  refine zl_patternRow_p27 ?_
  unfold zb_patternRow_p27
  refine zW_f (by decide) (zW_hasZ 36 (by decide) (by omega) Z (by omega) he her (fun _ he => zW_let (zW_t rfl ?_)) (fun _ σ2 S2 W2 Z2 p2 he => zW_let (zW_f (by decide) ?_)))
  · refine zW_subZ h66 (by omega) Z (by omega) rfl he her (fun τ σ3 S3 W3 a Z3 _ q3 he => zW_let ?_)
    have dl3 := dep_le q3
    refine zW_rowZ (KK := fun x' S' => ZL d 600 [.inl p, .inl x', .inl 0, .inl a] S') Z3 (by omega) (fun x' S5 Z5 => zl_patternRow_p73 ?_)
    unfold zb_patternRow_p73
    refine zW_let (zW_hasZ 34 (by decide) (by omega) Z5 (by omega) he her (fun _ he => zW_let ?_) (fun _ σ6 S6 W6 Z6 p6 he => zW_let ?_))
    · refine zl_patternRow_p27 ?_
      unfold zb_patternRow_p27
      exact zW_t rfl (zr_prowEnd (k := 0) (Or.inl rfl) (by omega) (by have := q3.1; omega) Z5 (by omega) he her (fun τ' σ7 S7 W7 a' y' w Z7 o7 q7 => hk τ' σ7 S7 W7 a' y' w (ZZ_mono Z7 (by omega)) o7 (Qx_to (Qx_t q3 q7) (by omega) (by omega))))
    · have q6 := Qx_to (Qx_t q3 (Qx_p p6)) (k' := 0) (m' := 2) (by omega) (by omega)
      have dl6 := dep_le q6
      have he : pB (R 27 [] [] σ6) (fun l σ2 => pCloses t 33 σ2 fun σ3 => pR (gn 35 [[p, (gk l : Int), p]] ((cs ++ [τ]) ++ gs l)) σ3) = some r := by
        simp only [List.append_assoc, List.singleton_append]
        exact he
      exact hL Γ S6 σ6 W6 _ x' a p 0 I A K _ d Q r Z6 (by have := q6.1; omega) (by omega) (by omega) he her (fun τ' σ7 S7 W7 a' y' w Z7 o7 q7 => hk τ' σ7 S7 W7 a' y' w (ZZ_mono Z7 (by omega)) o7 (Qx_to (Qx_t q6 q7) (by omega) (by omega)))
  · have he : pCloses t 33 σ2 (fun σ3 => pR (gn 35 [[p, ((1 : Nat) : Int), p]] cs) σ3) = some r := by
      have e : gs (gn 1 [] []) = [] := gs_gn
      simp only [List.append_nil] at he
      exact he
    exact zr_prowEnd (k := 1) (Or.inr rfl) (by omega) (by have := p2.2.1; omega) Z2 (by omega) he her (fun τ' σ7 S7 W7 a' y' w Z7 o7 q7 => hk τ' σ7 S7 W7 a' y' w (ZZ_mono Z7 (by omega)) o7 (Qx_to (Qx_t (Qx_p p2) q7) (by omega) (by omega)))
abbrev gPRow (t : List Int) (R : PX) : Ps → PR := fun σ => pOpens t σ fun σ1 => pB (if pIs σ1 33 then pR (gl []) σ1 else R 27 [] [] σ1) fun l σ2 => pCloses t 33 σ2 fun σ3 => pR (gn 35 [[((pc σ).2.1 : Int), (gk l : Int), ((pc σ).2.1 : Int)]] (gs l)) σ3
theorem zr_prow (hL : ZL381 t (R 27 [] [])) : ZCf t (nE 32 (gPRow t R)) 65 atA 0 one okP := by
  intro Γ S σ W M g d Q r Z hg hd he her hk
  obtain ⟨I, A, K⟩ := M
  have d40 := dep_40z Z
  obtain ⟨w32, he⟩ := nE_is he
  unfold gPRow at he
  simp only [pB_pT, pB_ite, pB_pR, pB_pWr, pB_in, pB_ass, pB_pNeed, pB_pOpens, pB_pCloses, pB_pName, pB_pAny, pB_pOpn, pB_pLab, gs_gl, cons1] at he
  refine zl_patternRow ?_
  unfold zb_patternRow
  refine zW_opensZ (by omega) Z (by have := w32.1; omega) (by omega) he her (fun hp σ1 S1 W1 Z1 p1 he => zW_let (zW_let ?_))
  have q1 := Qx_to (Qx_o p1) (k' := 1) (m' := 1) (by omega) (by omega)
  have dl1 := dep_op q1 hp
  have hp1 := p1.2.1
  refine zW_isZ 33 (by decide) (by omega) Z1 (fun w => zW_f (by decide) (zW_let (zW_let ?_))) (fun w => zW_t rfl (zW_let (zW_let ?_)))
  · rw [if_pos w] at he
    refine zl_patternRow_p27 ?_
    unfold zb_patternRow_p27
    exact zW_t rfl (zr_prowEnd (k := 0) (Or.inl rfl) (by omega) (by omega) (ZZ_e Z1) (by omega) he her (fun τ' σ7 S7 W7 a' y' w Z7 o7 q7 => hk τ' σ7 S7 W7 a' y' w (ZZ_mono Z7 (by omega)) o7 (Qx_to (Qx_t q1 q7) (by omega) (by omega))))
  · rw [if_neg w] at he
    exact hL Γ S1 σ1 W1 [] (-1) (-1) _ 0 I A K _ d Q r (ZZ_e Z1) (by omega) (by omega) (by omega) he her (fun τ' σ7 S7 W7 a' y' w Z7 o7 q7 => hk τ' σ7 S7 W7 a' y' w (ZZ_mono Z7 (by omega)) o7 (Qx_to (Qx_t q1 q7) (by omega) (by omega)))
theorem gAtP_eq : gAtP t R σ = if pIs σ 37 then pT (pPass t σ) (fun σ1 => pR (gn 30 [[((pc σ).2.1 : Int)]] []) σ1) else if tCon (pc σ) then gConst t 32 σ else if pIs σ 32 then gPRow t R σ else if pIs σ 28 then gHeld t R 0 σ else if pIs σ 30 then gHeld t R 1 σ else if tNf (pF σ) (pc σ) then pOpn t σ (fun q b σ1 => pR (gn 31 [[((pc σ).2.1 : Int), (q : Int), 0], b] []) σ1) else pWr σ := by
  unfold gAtP
  by_cases h1 : pIs σ 37
  · rw [if_neg (fun z => z (Or.inl h1)), if_pos h1, if_pos h1]
  rw [if_neg h1, if_neg h1]
  by_cases h2 : tCon (pc σ)
  · rw [if_neg (fun z => z (Or.inr (Or.inl h2))), if_pos h2, if_pos h2]
  rw [if_neg h2, if_neg h2]
  by_cases h3 : pIs σ 32
  · have n28 : ¬ pIs σ 28 := fun z => tIs_ne (by decide) h3 z
    rw [if_neg (fun z => z (Or.inr (Or.inr (Or.inr (Or.inl h3))))), if_neg n28, if_pos h3, if_pos h3]
  by_cases h4 : pIs σ 28
  · rw [if_neg (fun z => z (Or.inr (Or.inr (Or.inr (Or.inr (Or.inl h4)))))), if_pos h4, if_neg h3, if_pos h4]
    rfl
  rw [if_neg h4, if_neg h3, if_neg h3, if_neg h4]
  by_cases h5 : pIs σ 30
  · rw [if_neg (fun z => z (Or.inr (Or.inr (Or.inr (Or.inr (Or.inr h5)))))), if_pos h5, if_pos h5]
    rfl
  rw [if_neg h5, if_neg h5]
  by_cases h6 : tNf (pF σ) (pc σ)
  · rw [if_neg (fun z => z (Or.inr (Or.inr (Or.inl h6)))), if_pos h6]
  · rw [if_neg h6, if_pos]
    rintro (w | w | w | w | w | w)
    · exact h1 w
    · exact h2 w
    · exact h6 w
    · exact h3 w
    · exact h4 w
    · exact h5 w
theorem zr_atP (h65 : ZCf t (nE 32 (gPRow t R)) 65 atA 0 one okP) (h740 : ZCf t (nE 28 (gHeld t R 0)) 74 (fun σ => [.inl ((pc σ).2.1 : Int), .inl 0]) 0 one okP) (h741 : ZCf t (nE 30 (gHeld t R 1)) 74 (fun σ => [.inl ((pc σ).2.1 : Int), .inl 1]) 0 one okP) : ZCf t (gAtP t R) 63 noA 1 one okP := by
  intro Γ S σ W M g d Q r Z hg hd he her hk
  obtain ⟨I, A, K⟩ := M
  have d40 := dep_40z Z
  have e17 := ZZ_c Z
  have e22 := ZZ_n Z
  rw [gAtP_eq] at he
  refine zl_atomPattern ?_
  unfold zb_atomPattern
  refine zW_let (zW_hasZ 37 (by decide) (by omega) Z (by omega) he her (fun n37 he => zW_t rfl ?_) (fun _ σ1 S1 W1 Z1 p1 he => zW_f (by decide) ?_))
  · have con : tCon (pc σ) → zW (ZL d 379 [] S) Q := by
      intro hc
      rw [if_pos hc] at he
      have he : pB (gConst t 32 σ) pR = some r := by rw [pB_id]; exact he
      refine zl_atomPattern_p50 ?_
      unfold zb_atomPattern_p50
      have go : ∀ w : Int, w = 32 + ((pc σ).1 - 3 : Int) → zW (zI (zc ZL d 64 [.inl w] S) fun v S1 => zrI v S1) Q := fun w hw => zW_constZ 32 (Or.inl ⟨rfl, hw⟩) (by omega) Z hc (by omega) he her (fun σ1 S1 W1 a Z1 q1 he => zW_rI (hk _ σ1 S1 W1 a a (Option.some.inj he).symm (ZZ_mono Z1 (by omega)) (by
        show 32 + ((pc σ).1 - 3) ∈ kPa
        rcases hc with h | h | h <;> rw [h] <;> decide) q1))
      refine zW_if (fun w => go 32 (by omega)) (fun w => zW_if (fun w2 => go 33 (by omega)) (fun w2 => go 34 ?_))
      rcases hc with h | h | h <;> omega
    refine zW_if (fun w => con (Or.inl (by omega))) (fun w3 => zW_if (fun w => con (Or.inr (Or.inl (by omega)))) (fun w4 => zW_if (fun w => con (Or.inr (Or.inr (by omega)))) (fun w5 => ?_)))
    rw [if_neg (fun z => by rcases z with z | z | z <;> omega)] at he
    refine zW_isZ 32 (by decide) (by omega) Z (fun w => zW_f (by decide) ?_) (fun n32 => zW_t rfl (zW_isZ 28 (by decide) (by omega) Z (fun w => zW_f (by decide) (zW_isZ 30 (by decide) (by omega) Z (fun w' => (tIs_ne (by decide) w w').elim) (fun _ => ?_))) (fun n28 => zW_t rfl (zW_isZ 30 (by decide) (by omega) Z (fun w => zW_f (by decide) (zW_isZ 30 (by decide) (by omega) Z (fun _ => ?_) (fun w' => absurd w w'))) (fun n30 => zW_t rfl ?_)))))
    · rw [if_pos w] at he
      exact zW_subZ h65 (by omega) Z (by omega) (by rw [e17.2]) (nE_he w he) her (fun τ σ1 S1 W1 a Z1 o1 q1 he => zW_rI (hk _ σ1 S1 W1 a a (Option.some.inj he).symm Z1 o1 q1))
    · rw [if_neg n32, if_pos w] at he
      exact zW_subZ h740 (by omega) Z (by omega) (by rw [e17.2]) (nE_he w he) her (fun τ σ1 S1 W1 a Z1 o1 q1 he => zW_rI (hk _ σ1 S1 W1 a a (Option.some.inj he).symm Z1 o1 q1))
    · rw [if_neg n32, if_neg n28, if_pos w] at he
      exact zW_subZ h741 (by omega) Z (by omega) (by rw [e17.2]) (nE_he w he) her (fun τ σ1 S1 W1 a Z1 o1 q1 he => zW_rI (hk _ σ1 S1 W1 a a (Option.some.inj he).symm Z1 o1 q1))
    · rw [if_neg n32, if_neg n28, if_neg n30] at he
      have go : zW (ZL d 380 [.inl (S.1 18), .inl (if pIs σ 20 then ((pk σ).2.1 : Int) else ((pc σ).2.1 : Int))] S) Q := by
        refine zl_atomPattern_p145 ?_
        unfold zb_atomPattern_p145
        refine zW_let ?_
        by_cases hn : tNf (pF σ) (pc σ)
        · rw [if_pos hn] at he
          refine zW_opnZ (by omega) Z hn (by omega) he her (fun σ1 S1 W1 x b Z1 q1 he => ?_)
          obtain ⟨hx, Z1⟩ := zK_t Z1
          rw [e17.2]
          refine zW_nodeZ (M0 := I) [] 31 [[((pc σ).2.1 : Int), ((if pIs σ 20 then (pk σ).2.1 else (pc σ).2.1 : Nat) : Int), 0], b] [] (by omega) Z1 (by omega) (by decide) rfl (zqc rfl (zqc hx (zqc rfl (zqc rfl (zqc ?_ zqn))))) rfl (fun a S2 Z2 => zW_rI (hk _ σ1 S2 W1 a a (Option.some.inj he).symm (ZZ_mono Z2 (by omega)) (by show 31 ∈ kPa; decide) q1))
          show (if pIs σ 20 then ((pk σ).2.1 : Int) else ((pc σ).2.1 : Int)) = ((if pIs σ 20 then (pk σ).2.1 else (pc σ).2.1 : Nat) : Int)
          split <;> rfl
        · rw [if_neg hn] at he
          exact zW_opnE (by omega) Z hn (by omega) he her
      refine zW_isZ 20 (by decide) (by omega) Z (fun w => zW_f (by decide) ?_) (fun w => zW_t rfl ?_)
      · rw [if_pos w] at go
        rw [e22.2]; exact go
      · rw [if_neg w] at go
        rw [e17.2] at go ⊢; exact go
  · refine zW_nodeZ (M0 := I) [] 30 [[((pc σ).2.1 : Int)]] [] (by omega) Z1 (by omega) (by decide) rfl (zqc e17.2 zqn) rfl (fun a S2 Z2 => zW_rI (hk _ σ1 S2 W1 a a (Option.some.inj he).symm (ZZ_mono Z2 (by omega)) (by show 30 ∈ kPa; decide) (Qx_p p1)))
end ZPt2
