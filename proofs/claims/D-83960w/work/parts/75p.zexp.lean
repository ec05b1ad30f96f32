set_option maxRecDepth 100000
/-! THE REFERENCE'S PARSER: expressions but for atoms -/
abbrev okEz : Ps → Gt → ZS → Int → Prop := fun _ τ _ _ => gk τ ∈ kEx
abbrev oke : Gt → Prop := fun τ => gk τ ∈ kEx
abbrev imRz : Gt → List Gt := fun τ => gs τ
abbrev okR : Ps → Gt → ZS → Int → Prop := fun _ τ _ _ => gs τ ≠ [] ∧ τ = gl (gs τ)
section ZExp
variable {t : List Int} {Γ : Zg} {S S' : ZS} {σ σ1 : Ps} {W W' : List (List Int)} {M : Zm} {g g' G : Int} {d n tag m : Nat} {Q : Option (Option ZV) → ZS → Prop} {r : (Int × Nat) ⊕ (Gt × Ps)} {I : List Zi} {A : List Int × List (Int × Int × Int)} {K : List Zk} {cs : List Gt} {x y z p x2 : Int} {τ : Gt} {R R' : PX} {o o' : ZO} {lo hi : Int}
theorem Qx_dz {k : Nat} (h : Qx t 1 k σ σ1) : 0 < pd σ1 ∧ Qx t 0 k σ (psd σ1 (pd σ1 - 1)) := ⟨by have := h.1; omega, by show ((pd σ1 - 1 : Nat) : Int) = (pd σ : Int) + 0; have := h.1; omega, h.2⟩
theorem zr_wide (h0 : ZCf t (R 0 [] []) 82 noA 10 one okEz) (h2 : ZCf t (R 2 [] []) 83 noA 9 imRz okR) : ZCf t (nW (gWide t R)) 82 noA 10 one okEz := by
  intro Γ S σ W M g d Q r Z hg hd he her hk
  obtain ⟨I, A, K⟩ := M
  have d40 := dep_40z Z
  have e18 := (ZZ_c Z).2
  have hw : tWide (pc σ) ∧ gWide t R σ = some r := by
    unfold nW at he
    split at he
    · next h => exact ⟨h, he⟩
    · cases he
  obtain ⟨hw, he⟩ := hw
  have h6 : (pc σ).1 ≠ 6 := by rcases hw with w | w | w | w | w <;> (have := w.1; omega)
  unfold gWide at he
  refine zl_expression ?_
  unfold zb_expression
  refine zW_let (zW_isZ 22 (by decide) (by omega) Z (fun w => zW_f (by decide) ?_) (fun n22 => zW_t rfl (zW_isZ 12 (by decide) (by omega) Z (fun w => zW_f (by decide) ?_) (fun n12 => zW_t rfl (zW_isZ 27 (by decide) (by omega) Z (fun w => zW_f (by decide) ?_) (fun n27 => zW_t rfl (zW_isZ 3 (by decide) (by omega) Z (fun w => zW_f (by decide) ?_) (fun n3 => zW_t rfl (zW_isZ 9 (by decide) (by omega) Z (fun w => zW_f (by decide) ?_) (fun n9 => ?_))))))))))
  · simp only [if_pos w] at he
    refine zW_opensZ (by omega) Z h6 (by omega) he her (fun hp σ1 S1 W1 Z1 p1 he => ?_)
    have q1 := Qx_to (Qx_o p1) (k' := 1) (m' := 1) (by omega) (by omega)
    have dl1 := dep_op q1 hp
    refine zW_subZ h0 (by omega) Z1 (by omega) rfl he her (fun e σ2 S2 W2 a Z2 _ q2 he => zW_let ?_)
    have q2 := Qx_to (Qx_t q1 q2) (k' := 1) (m' := 1) (by omega) (by omega)
    obtain ⟨hp2, q2⟩ := Qx_dz q2
    refine zW_decZ hp2 Z2 (fun S3 Z3 => ?_)
    exact zW_nodeZ (M0 := I) [([e], a, a)] 8 [[((pc σ).2.1 : Int)]] [e] (by omega) Z3 (by omega) (by decide) rfl (zqc e18 zqn) ⟨⟨_, rfl, rfl⟩, rfl, rfl⟩ (fun f S9 Z9 => zW_rI (hk _ _ S9 W2 f f (Option.some.inj he).symm (ZZ_mono Z9 (by omega)) (by show 8 ∈ kEx; decide) q2))
  · simp only [if_neg n22, if_pos w] at he
    refine zW_opensZ (by omega) Z h6 (by omega) he her (fun hp σ1 S1 W1 Z1 p1 he => ?_)
    have q1 := Qx_to (Qx_o p1) (k' := 1) (m' := 1) (by omega) (by omega)
    have dl1 := dep_op q1 hp
    refine zW_subZ h0 (by omega) Z1 (by omega) rfl he her (fun e σ2 S2 W2 a Z2 _ q2 he => zW_let ?_)
    have q2 := Qx_to (Qx_t q1 q2) (k' := 1) (m' := 1) (by omega) (by omega)
    have dl2 := dep_op q2 hp
    refine zW_needZ 24 (by decide) (by omega) Z2 (by omega) he her (fun _ σ3 S3 W3 Z3 p3 he => ?_)
    have q3 := Qx_to (Qx_t q2 (Qx_p p3)) (k' := 1) (m' := 1) (by omega) (by omega)
    have dl3 := dep_op q3 hp
    refine zW_subZ h0 (by omega) Z3 (by omega) rfl he her (fun e2 σ4 S4 W4 a2 Z4 _ q4 he => zW_let ?_)
    have q4 := Qx_to (Qx_t q3 q4) (k' := 1) (m' := 1) (by omega) (by omega)
    have dl4 := dep_op q4 hp
    refine zW_needZ 6 (by decide) (by omega) Z4 (by omega) he her (fun _ σ5 S5 W5 Z5 p5 he => ?_)
    have q5 := Qx_to (Qx_t q4 (Qx_p p5)) (k' := 1) (m' := 1) (by omega) (by omega)
    have dl5 := dep_op q5 hp
    refine zW_subZ h0 (by omega) Z5 (by omega) rfl he her (fun e3 σ6 S6 W6 a3 Z6 _ q6 he => zW_let ?_)
    have q6 := Qx_to (Qx_t q5 q6) (k' := 1) (m' := 1) (by omega) (by omega)
    obtain ⟨hp6, q6⟩ := Qx_dz q6
    refine zW_decZ hp6 Z6 (fun S7 Z7 => ?_)
    exact zW_nodeZ (M0 := I) [([e], a, a), ([e2], a2, a2), ([e3], a3, a3)] 9 [[((pc σ).2.1 : Int)]] [e, e2, e3] (by omega) Z7 (by omega) (by decide) rfl (zqc e18 zqn) ⟨⟨_, rfl, rfl⟩, rfl, ⟨_, rfl, rfl⟩, rfl, ⟨_, rfl, rfl⟩, rfl, rfl⟩ (fun f S9 Z9 => zW_rI (hk _ _ S9 W6 f f (Option.some.inj he).symm (ZZ_mono Z9 (by omega)) (by show 9 ∈ kEx; decide) q6))
  · simp only [if_neg n22, if_neg n12, if_pos w] at he
    refine zW_opensZ (by omega) Z h6 (by omega) he her (fun hp σ1 S1 W1 Z1 p1 he => ?_)
    have q1 := Qx_to (Qx_o p1) (k' := 1) (m' := 1) (by omega) (by omega)
    have dl1 := dep_op q1 hp
    refine zW_subZ h0 (by omega) Z1 (by omega) rfl he her (fun e σ2 S2 W2 a Z2 _ q2 he => zW_let ?_)
    have q2 := Qx_to (Qx_t q1 q2) (k' := 1) (m' := 1) (by omega) (by omega)
    have dl2 := dep_op q2 hp
    refine zW_needZ 5 (by decide) (by omega) Z2 (by omega) he her (fun _ σ3 S3 W3 Z3 p3 he => ?_)
    have q3 := Qx_to (Qx_t q2 (Qx_p p3)) (k' := 1) (m' := 1) (by omega) (by omega)
    have dl3 := dep_op q3 hp
    refine zW_subZ h0 (by omega) Z3 (by omega) rfl he her (fun e2 σ4 S4 W4 a2 Z4 _ q4 he => zW_let ?_)
    have q4 := Qx_to (Qx_t q3 q4) (k' := 1) (m' := 1) (by omega) (by omega)
    obtain ⟨hp4, q4⟩ := Qx_dz q4
    refine zW_decZ hp4 Z4 (fun S7 Z7 => ?_)
    exact zW_nodeZ (M0 := I) [([e], a, a), ([e2], a2, a2)] 10 [[((pc σ).2.1 : Int)]] [e, e2] (by omega) Z7 (by omega) (by decide) rfl (zqc e18 zqn) ⟨⟨_, rfl, rfl⟩, rfl, ⟨_, rfl, rfl⟩, rfl, rfl⟩ (fun f S9 Z9 => zW_rI (hk _ _ S9 W4 f f (Option.some.inj he).symm (ZZ_mono Z9 (by omega)) (by show 10 ∈ kEx; decide) q4))
  · simp only [if_neg n22, if_neg n12, if_neg n27, if_pos w] at he
    refine zW_opensZ (by omega) Z h6 (by omega) he her (fun hp σ1 S1 W1 Z1 p1 he => ?_)
    have q1 := Qx_to (Qx_o p1) (k' := 1) (m' := 1) (by omega) (by omega)
    have dl1 := dep_op q1 hp
    refine zW_subZ h0 (by omega) Z1 (by omega) rfl he her (fun e σ2 S2 W2 a Z2 _ q2 he => zW_let ?_)
    have q2 := Qx_to (Qx_t q1 q2) (k' := 1) (m' := 1) (by omega) (by omega)
    have dl2 := dep_op q2 hp
    refine zW_needZ 19 (by decide) (by omega) Z2 (by omega) he her (fun _ σ3 S3 W3 Z3 p3 he => ?_)
    have q3 := Qx_to (Qx_t q2 (Qx_p p3)) (k' := 1) (m' := 1) (by omega) (by omega)
    have dl3 := dep_op q3 hp
    refine zW_subR h2 (by omega) Z3 (by omega) rfl he her (fun l σ4 S4 W4 a2 y2 Z4 hl q4 he => zW_let ?_)
    have q4 := Qx_to (Qx_t q3 q4) (k' := 1) (m' := 1) (by omega) (by omega)
    obtain ⟨hp4, q4⟩ := Qx_dz q4
    obtain ⟨hl1, hl2⟩ := hl
    refine zW_decZ hp4 Z4 (fun S7 Z7 => ?_)
    exact zW_nodeZ (M0 := I) [([e], a, a), (gs l, a2, y2)] 11 [[((pc σ).2.1 : Int), ((pc σ).2.1 : Int)]] [e, l] (by omega) Z7 (by omega) (by decide) rfl (zqc e18 (zqc e18 zqn)) ⟨⟨_, rfl, rfl⟩, rfl, ⟨0, [], Or.inl rfl, congrArg some hl2⟩, rfl, rfl⟩ (fun f S9 Z9 => zW_rI (hk _ _ S9 W4 f f (Option.some.inj he).symm (ZZ_mono Z9 (by omega)) (by show 11 ∈ kEx; decide) q4))
  · simp only [if_neg n22, if_neg n12, if_neg n27, if_neg n3] at he
    refine zW_opensZ (by omega) Z h6 (by omega) he her (fun hp σ1 S1 W1 Z1 p1 he => ?_)
    have q1 := Qx_to (Qx_o p1) (k' := 1) (m' := 1) (by omega) (by omega)
    have dl1 := dep_op q1 hp
    refine zW_subR h2 (by omega) Z1 (by omega) rfl he her (fun l σ4 S4 W4 a2 y2 Z4 hl q4 he => zW_let ?_)
    have q4 := Qx_to (Qx_t q1 q4) (k' := 1) (m' := 1) (by omega) (by omega)
    obtain ⟨hp4, q4⟩ := Qx_dz q4
    obtain ⟨hl1, hl2⟩ := hl
    refine zW_decZ hp4 Z4 (fun S7 Z7 => ?_)
    exact zW_nodeZ (M0 := I) [(gs l, a2, y2)] 12 [[((pc σ).2.1 : Int), ((pc σ).2.1 : Int)]] [l] (by omega) Z7 (by omega) (by decide) rfl (zqc e18 (zqc e18 zqn)) ⟨⟨0, [], Or.inl rfl, congrArg some hl2⟩, rfl, rfl⟩ (fun f S9 Z9 => zW_rI (hk _ _ S9 W4 f f (Option.some.inj he).symm (ZZ_mono Z9 (by omega)) (by show 12 ∈ kEx; decide) q4))
  · rcases hw with w | w | w | w | w
    · exact absurd w n22
    · exact absurd w n12
    · exact absurd w n27
    · exact absurd w n3
    · exact absurd w n9
/-- a row of rules -/
theorem zr_rule (h20 : ZCf t (R 20 [] []) 55 noA 7 one okP) (h0 : ZCf t (R 0 [] []) 82 noA 10 one okEz) : ZCf t (fun σ => pB (R 20 [] [] σ) fun p σ1 => pNeed t 41 σ1 fun σ2 => pB (R 0 [] [] σ2) fun e σ3 => pR (gn 61 [] [p, e]) σ3) 84 noA 8 one okA := by
  intro Γ S σ W M g d Q r Z hg hd he her hk
  obtain ⟨I, A, K⟩ := M
  have d40 := dep_40z Z
  refine zl_rule ?_
  unfold zb_rule
  refine zW_subZ h20 (by omega) Z (by omega) rfl he her (fun p σ1 S1 W1 a Z1 o1 q1 he => zW_let ?_)
  have dl1 := dep_le q1
  refine zW_needZ 41 (by decide) (by omega) Z1 (by omega) he her (fun _ σ2 S2 W2 Z2 p2 he => ?_)
  have q2 := Qx_to (Qx_t q1 (Qx_p p2)) (k' := 0) (m' := 2) (by omega) (by omega)
  have dl2 := dep_le q2
  refine zW_subZ h0 (by omega) Z2 (by omega) rfl he her (fun e σ3 S3 W3 b Z3 _ q3 he => zW_let ?_)
  have q3 := Qx_to (Qx_t q2 q3) (k' := 0) (m' := 1) (by omega) (by omega)
  exact zW_whZ 1 Z3 (by omega) rfl (kPa_Z o1) (zW_nodeZ (M0 := I) [([p], a, a), ([e], b, b)] 61 [] [p, e] (by omega) Z3 (by omega) (by decide) rfl zqn ⟨⟨_, rfl, rfl⟩, rfl, ⟨_, rfl, rfl⟩, rfl, rfl⟩ (fun f S9 Z9 => zW_rI (hk _ _ S9 W3 f f (Option.some.inj he).symm (ZZ_mono Z9 (by omega)) trivial q3)))
/-- a loop that only lengthens its row -/
def ZLr (t : List Int) (fs : Ps → PR) (tag lev : Nat) (as : Int → Int → List ZV) : Prop :=
  ∀ (Γ : Zg) (S : ZS) (σ : Ps) (W : List (List Int)) (cs : List Gt) (x y : Int) (I : List Zi) (A : List Int × List (Int × Int × Int)) (K : List Zk) (g : Int) (d : Nat) (Q : Option (Option ZV) → ZS → Prop) (r : (Int × Nat) ⊕ (Gt × Ps)), ZZ t Γ S σ W ((cs, x, y) :: I, A, K) g → cs ≠ [] → g ≤ 150 → dep t σ + lev ≤ d → fs σ = some r →
    (∀ e p S', r = .inl (e, p) → ThZ t Γ S' e p → Q none S') →
    (∀ τ σ1 S1 W1 y', r = .inr (τ, σ1) → τ = gl (gs τ) → ZZ t Γ S1 σ1 W1 ((cs ++ gs τ, x, y') :: I, A, K) g → Qx t 0 0 σ σ1 → Q (some (some (.inl x))) S1) → zW (ZL d tag (as x y) S) Q
/-- behind one: sign m and one more -/
def gMore (t : List Int) (m : Nat) (f1 : Ps → PR) (fs : Ps → PR) : Ps → PR := fun σ => if pIs σ m then pT (pPass t σ) fun σ1 => pB (f1 σ1) fun e σ2 => cons1 e (fs σ2) else pR (gl []) σ
theorem cons1_c {c : Gt} {X : PR} {r : (Int × Nat) ⊕ (Gt × Ps)} (h : cons1 c X = some r) : ∃ q, X = some q ∧ (∀ e, q = .inl e → r = .inl e) ∧ ∀ l σ, q = .inr (l, σ) → r = .inr (gl (c :: gs l), σ) := by
  obtain ⟨q, hq, h1, h2⟩ := pB_e h
  exact ⟨q, hq, h1, fun l σ w => (Option.some.inj (h2 l σ w)).symm⟩
theorem zr_match (h84 : ZCf t (fun σ => pB (R 20 [] [] σ) fun p σ1 => pNeed t 41 σ1 fun σ2 => pB (R 0 [] [] σ2) fun e σ3 => pR (gn 61 [] [p, e]) σ3) 84 noA 8 one okA) (hL : ZLr t (fun σ => if pIs σ 39 then pT (pPass t σ) (fun σ4 => R 2 [] [] σ4) else pR (gl []) σ) 395 9 (fun x y => [.inl x, .inl y])) : ZCf t (gRules t R) 83 noA 9 imRz okR := by
  intro Γ S σ W M g d Q r Z hg hd he her hk
  obtain ⟨I, A, K⟩ := M
  have d40 := dep_40z Z
  have he : pB (pB (R 20 [] [] σ) fun p σ1 => pNeed t 41 σ1 fun σ2 => pB (R 0 [] [] σ2) fun e σ3 => pR (gn 61 [] [p, e]) σ3) (fun c σ3 => cons1 c (if pIs σ3 39 then pT (pPass t σ3) (fun σ4 => R 2 [] [] σ4) else pR (gl []) σ3)) = some r := by
    unfold gRules at he
    simp only [pB_pT, pB_ite, pB_pR, pB_pWr, pB_in, pB_ass, pB_pNeed, pB_pOpens, pB_pCloses, pB_pName, pB_pAny, pB_pOpn, pB_pLab, gs_gl, cons1] at he ⊢
    exact he
  refine zl_match ?_
  unfold zb_match
  refine zW_subZ h84 (by omega) Z (by omega) rfl he her (fun c σ1 S1 W1 a Z1 _ q1 he => zW_let (zW_let ?_))
  have dl1 := dep_le q1
  obtain ⟨q, hq, w1, w2⟩ := cons1_c he
  exact hL Γ S1 σ1 W1 [c] a a I A K _ d Q q Z1 (List.cons_ne_nil _ _) (by omega) (by omega) hq (fun e p S' w T => her e p S' (w1 _ w) T) (fun l σ7 S7 W7 y' w hl Z7 q7 => hk _ σ7 S7 W7 a y' (w2 _ _ w) (by show ZZ t Γ S7 σ7 W7 ((gs (gl (c :: gs l)), a, y') :: I, A, K) _; rw [gs_gl]; exact Z7) ⟨by rw [gs_gl]; exact List.cons_ne_nil _ _, by rw [gs_gl]⟩ (Qx_to (Qx_t q1 q7) (by omega) (by omega)))
theorem zr_matchL (h84 : ZCf t (fun σ => pB (R 20 [] [] σ) fun p σ1 => pNeed t 41 σ1 fun σ2 => pB (R 0 [] [] σ2) fun e σ3 => pR (gn 61 [] [p, e]) σ3) 84 noA 8 one okA) (hL : ZLr t (fun σ => if pIs σ 39 then pT (pPass t σ) (fun σ4 => R 2 [] [] σ4) else pR (gl []) σ) 395 9 (fun x y => [.inl x, .inl y])) : ZLr t (fun σ => if pIs σ 39 then pT (pPass t σ) (fun σ4 => gRules t R σ4) else pR (gl []) σ) 395 9 (fun x y => [.inl x, .inl y]) := by
  intro Γ S σ W cs x y I A K g d Q r Z hc hg hd he her hk
  have d40 := dep_40z Z
  refine zl_match_p7 ?_
  unfold zb_match_p7
  refine zW_hasZ 39 (by decide) (by omega) Z (by omega) he her (fun _ he => zW_t rfl (zW_rI ?_)) (fun _ σ1 S1 W1 Z1 p1 he => zW_f (by decide) ?_)
  · exact hk _ σ S W y (Option.some.inj he).symm (by rw [gs_gl]) (by rw [gs_gl, List.append_nil]; exact Z) Qx_0
  · have q1 := Qx_p p1
    have dl1 := dep_le q1
    have he : pB (pB (R 20 [] [] σ1) fun p σ1 => pNeed t 41 σ1 fun σ2 => pB (R 0 [] [] σ2) fun e σ3 => pR (gn 61 [] [p, e]) σ3) (fun c σ3 => cons1 c (if pIs σ3 39 then pT (pPass t σ3) (fun σ4 => R 2 [] [] σ4) else pR (gl []) σ3)) = some r := by
      unfold gRules at he
      simp only [pB_pT, pB_ite, pB_pR, pB_pWr, pB_in, pB_ass, pB_pNeed, pB_pOpens, pB_pCloses, pB_pName, pB_pAny, pB_pOpn, pB_pLab, gs_gl, cons1] at he ⊢
      exact he
    refine zW_subZ h84 (by omega) Z1 (by omega) rfl he her (fun c σ3 S3 W3 a Z3 _ q3 he => ?_)
    have q3 := Qx_to (Qx_t q1 q3) (k' := 0) (m' := 1) (by omega) (by omega)
    have dl3 := dep_le q3
    obtain ⟨q, hq, w1, w2⟩ := cons1_c he
    refine zW_rowW (KK := fun v S' => ZL d 395 [.inl x, .inl v] S') Z3 hc (by omega) (fun S4 Z4 => ?_)
    exact hL Γ S4 σ3 W3 (cs ++ [c]) x a I A K _ d Q q Z4 (List.append_ne_nil_of_right_ne_nil _ (List.cons_ne_nil _ _)) (by omega) (by omega) hq (fun e p S' w T => her e p S' (w1 _ w) T) (fun l σ7 S7 W7 y' w hl Z7 q7 => hk _ σ7 S7 W7 y' (w2 _ _ w) (by rw [gs_gl]) (by rw [gs_gl]; rw [List.append_assoc] at Z7; exact ZZ_mono Z7 (by omega)) (Qx_to (Qx_t q3 q7) (by omega) (by omega)))
end ZExp
