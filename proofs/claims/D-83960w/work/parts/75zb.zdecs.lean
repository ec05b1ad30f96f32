set_option maxRecDepth 100000
/-! THE REFERENCE'S PARSER: one declaration; declarations -/
/-- what ends a row of declarations: at the top a sign may stand behind -/
def gDT (t : List Int) (top : Int) (l : Gt) (σ : Ps) : PR := if top = 0 then pR l σ else if pIs σ 35 then pT (pPass t σ) fun σ2 => if (pc σ2).1 = 6 then pR l σ2 else pWr σ2 else pR l σ
def gDN (t : List Int) (top : Int) (fs : Ps → PR) (cs : List Gt) (σ : Ps) : PR := if pIs σ 35 then pT (pPass t σ) (fun σ2 => if tDec (pc σ2) then pB (fs σ2) (fun l σ3 => gDT t top (gl (cs ++ gs l)) σ3) else if top = 0 then pWr σ2 else if (pc σ2).1 = 6 then pR (gl cs) σ2 else pWr σ2) else if tDec (pc σ) then pB (fs σ) (fun l σ3 => gDT t top (gl (cs ++ gs l)) σ3) else pR (gl cs) σ
def ZL370 (t : List Int) (top : Int) (fs : Ps → PR) : Prop :=
  ∀ (Γ : Zg) (S : ZS) (σ : Ps) (W : List (List Int)) (cs : List Gt) (x y : Int) (I : List Zi) (A : List Int × List (Int × Int × Int)) (K : List Zk) (g : Int) (d : Nat) (Q : Option (Option ZV) → ZS → Prop) (r : (Int × Nat) ⊕ (Gt × Ps)), ZZ t Γ S σ W ((cs, x, y) :: I, A, K) g → cs ≠ [] → g ≤ 148 → dep t σ + 20 ≤ d → gDN t top fs cs σ = some r →
    (∀ e p S', r = .inl (e, p) → ThZ t Γ S' e p → Q none S') →
    (∀ τ σ1 S1 W1 a y', r = .inr (τ, σ1) → ZZ t Γ S1 σ1 W1 ((gs τ, a, y') :: I, A, K) g → gs τ ≠ [] ∧ τ = gl (gs τ) → Qy t 0 0 σ σ1 → Q (some (some (.inl a))) S1) → zW (ZL d 370 [.inl top, .inl x, .inl y, .inl 1] S) Q
section ZDec2
variable {t : List Int} {Γ : Zg} {S S' S1 : ZS} {σ σ1 : Ps} {W W' W1 : List (List Int)} {M : Zm} {g g' G : Int} {d n tag m : Nat} {Q : Option (Option ZV) → ZS → Prop} {r : (Int × Nat) ⊕ (Gt × Ps)} {I J : List Zi} {A A' : List Int × List (Int × Int × Int)} {K K' : List Zk} {x y z p s r' w top : Int} {b : List Int} {R R' : PX} {F : Fx} {cs : List Gt} {fs : Ps → PR}
theorem dec_w (h : tDec (pc σ)) : ∃ m, (m = 4 ∨ m = 8 ∨ m = 10 ∨ m = 14 ∨ m = 15 ∨ m = 17 ∨ m = 18 ∨ m = 25 ∨ m = 26) ∧ pIs σ m := by
  obtain ⟨h0, h1⟩ := h
  simp only [sDecls, List.mem_cons, List.not_mem_nil, or_false] at h1
  rcases h1 with q | q | q | q | q | q | q | q | q
  · exact ⟨26, by omega, h0, q⟩
  · exact ⟨10, by omega, h0, q⟩
  · exact ⟨25, by omega, h0, q⟩
  · exact ⟨4, by omega, h0, q⟩
  · exact ⟨8, by omega, h0, q⟩
  · exact ⟨17, by omega, h0, q⟩
  · exact ⟨14, by omega, h0, q⟩
  · exact ⟨15, by omega, h0, q⟩
  · exact ⟨18, by omega, h0, q⟩
theorem dep_ly (h : Qy t 0 m σ σ1) : dep t σ1 + 2 * m ≤ dep t σ := by
  have h1 := h.1
  have h2 := h.2.2.1
  have : pd σ1 = pd σ := by omega
  unfold dep
  rw [this]
  omega
theorem zr_dec (h30 : ZCf t (R 30 [] []) 69 noA 4 one okA) (h42 : ZLn t (R 42 [] []) 373 9 Lxy FgL 0 imRz okRow (-2)) (g42 : isGl (R 42 [] [])) (h43 : ZLn t (R 43 [] []) 404 12 Lxy FgL 0 imRz okRow (-1)) (g43 : isGl (R 43 [] [])) (h47 : ZVf t (R 47 [] []) 100 1) (h49 : ZLn t (R 49 [] []) 408 7 Lxy FgL 0 imRz okRow (-2)) (g49 : isGl (R 49 [] [])) (hD : ZDf t (R 40 [0] []) 46 [.inl 0] 20) (h51 : ∀ (s r' : Int) σ, PLe (R 51 [s, r'] [] σ) (gFixR t s r' R' σ)) (hL : ∀ m : Nat, m = 14 ∨ m = 15 ∨ m = 18 → ∀ s, -1 ≤ s → s ≤ 9 → ZL719 t (gFixR t s (if m = 15 then 1 else 0) R') (m : Int) s) : ZD1 t (gDec t R) 47 [] 16 (fun σ => tDec (pc σ)) := by
  intro Γ S σ W M g d Q r Z wd hg hd he her hk
  obtain ⟨m, hm, wm⟩ := dec_w wd
  have hm44 : m < 44 := by omega
  have d40 := dep_40z Z
  have h6 : (pc σ).1 ≠ 6 := by have := wm.1; omega
  have e19 : S.1 19 = (m : Int) := (zword Z wm.1 hm44).mpr wm
  have no : ∀ n, kwd m ≠ kwd n → ¬ pIs σ n := fun n h z => h (wm.2.symm.trans z.2)
  obtain ⟨I, A, K⟩ := M
  have he : gDec t R σ = some r := he
  unfold gDec at he
  refine zl_dec ?_
  unfold zb_dec
  rw [e19]
  refine zW_let (zW_let ?_)
  have inf : (m = 14 ∨ m = 15 ∨ m = 18) → (¬ pIs σ 26 ∧ ¬ pIs σ 10 ∧ ¬ pIs σ 25 ∧ ¬ pIs σ 4 ∧ ¬ pIs σ 8 ∧ ¬ pIs σ 17) → (pIs σ 18 ↔ m = 18) → (pIs σ 15 ↔ m = 15) → zW (zV (zc ZL d 43 [] S) fun S5 => zI (zc ZL d 106 [.inl (S.1 18), .inl (m : Int)] S5) fun v37 S36 => zrI v37 S36) Q := by
    intro hm ⟨n1, n2, n3, n4, n5, n6⟩ i18 i15
    simp only [if_neg n1, if_neg n2, if_neg n3, if_neg n4, if_neg n5, if_neg n6, i18, i15] at he
    refine zW_stepZ (by omega) Z h6 (by omega) he her (fun σ1 S1 W1 Z1 p1 he => ?_)
    have q1 := Qx_p p1
    have dl1 := dep_le q1
    obtain ⟨d, rfl⟩ : ∃ e, d = e + 1 := ⟨d - 1, by omega⟩
    refine zW_I (P := fun v S' => ∃ τ σ2 W2, r = .inr (τ, σ2) ∧ ZZ t Γ S' σ2 W2 (([τ], v, v) :: I, A, K) (g - 2) ∧ Qy t 0 1 σ σ2) (T := fun S' => Q none S') (zW_c (zr_ifx hm h51 (hL m hm) Γ S1 σ1 W1 (I, A, K) _ d _ r Z1 trivial (by omega) (by omega) he her (fun τ σ2 S2 W2 a w Z2 q2 => ⟨τ, σ2, W2, w, ZZ_mono Z2 (by omega), Qy_to (Qy_t (Qy_x q1) q2) (by omega) (by omega)⟩))) (fun v S2 ⟨τ, σ2, W2, w, Z2, q2⟩ => zW_rI (hk τ σ2 S2 W2 v w Z2 q2)) (fun _ q => q)
  rcases hm with rfl | rfl | rfl | rfl | rfl | rfl | rfl | rfl | rfl
  · rw [if_neg (no 26 (by decide)), if_neg (no 10 (by decide)), if_neg (no 25 (by decide)), if_pos wm] at he
    refine zW_f (by decide) (zW_stepZ (by omega) Z h6 (by omega) he her (fun σ1 S1 W1 Z1 p1 he => zW_t (by decide) ?_))
    have q1 := Qx_p p1
    have dl1 := dep_le q1
    refine zW_loopR z102 h49 (by omega) Z1 (by omega) he (fun l σ' h => g49 _ l σ' h) her (fun l σ4 S4 W4 a y4 Z4 hl q4 he => ?_)
    exact zW_nodeZ (M0 := I) [(gs l, a, y4)] 74 [] (gs l) (by omega) Z4 (by omega) (by decide) rfl zqn ⟨rfl, rfl, rfl⟩ (fun f S5 Z5 => zW_rI (hk _ σ4 S5 W4 f (Option.some.inj he).symm (ZZ_mono Z5 (by omega)) (Qy_x (Qx_to (Qx_t q1 q4) (by omega) (by omega)))))
  · rw [if_neg (no 26 (by decide)), if_neg (no 10 (by decide)), if_neg (no 25 (by decide)), if_neg (no 4 (by decide)), if_pos wm] at he
    refine zW_f (by decide) (zW_stepZ (by omega) Z h6 (by omega) he her (fun σ1 S1 W1 Z1 p1 he => zW_f (by decide) (zW_t (by decide) ?_)))
    have q1 := Qx_p p1
    have dl1 := dep_le q1
    have he : pB (gExc t R σ1) pR = some r := by rw [pB_id]; exact he
    exact zW_subZ (zr_exc h30) (by omega) Z1 (by omega) rfl he her (fun τ σ3 S3 W3 a Z3 _ q3 he => zW_rI (hk τ σ3 S3 W3 a (Option.some.inj he).symm (ZZ_mono Z3 (by omega)) (Qy_x (Qx_to (Qx_t q1 q3) (by omega) (by omega)))))
  · rw [if_neg (no 26 (by decide)), if_pos wm] at he
    refine zW_f (by decide) (zW_stepZ (by omega) Z h6 (by omega) he her (fun σ1 S1 W1 Z1 p1 he => zW_f (by decide) (zW_f (by decide) (zW_t (by decide) ?_))))
    have q1 := Qx_p p1
    have dl1 := dep_le q1
    refine zW_loopR z96 h43 (by omega) Z1 (by omega) he (fun l σ' h => g43 _ l σ' h) her (fun l σ4 S4 W4 a y4 Z4 hl q4 he => ?_)
    exact zW_nodeZ (M0 := I) [(gs l, a, y4)] 72 [] (gs l) (by omega) Z4 (by omega) (by decide) rfl zqn ⟨rfl, rfl, rfl⟩ (fun f S5 Z5 => zW_rI (hk _ σ4 S5 W4 f (Option.some.inj he).symm (ZZ_mono Z5 (by omega)) (Qy_x (Qx_to (Qx_t q1 q4) (by omega) (by omega)))))
  · refine zW_f (by decide) ?_
    have := inf (by omega) ⟨no _ (by decide), no _ (by decide), no _ (by decide), no _ (by decide), no _ (by decide), no _ (by decide)⟩ ⟨fun z => absurd z (no _ (by decide)), fun z => by omega⟩ ⟨fun z => absurd z (no _ (by decide)), fun z => by omega⟩
    exact this
  · refine zW_f (by decide) ?_
    have := inf (by omega) ⟨no _ (by decide), no _ (by decide), no _ (by decide), no _ (by decide), no _ (by decide), no _ (by decide)⟩ ⟨fun z => absurd z (no _ (by decide)), fun z => by omega⟩ ⟨fun z => rfl, fun z => wm⟩
    exact this
  · rw [if_neg (no 26 (by decide)), if_neg (no 10 (by decide)), if_neg (no 25 (by decide)), if_neg (no 4 (by decide)), if_neg (no 8 (by decide)), if_pos wm] at he
    refine zW_t (by decide) ?_
    obtain ⟨d, rfl⟩ : ∃ e, d = e + 1 := ⟨d - 1, by omega⟩
    exact zW_I (P := fun v S' => ∃ τ σ2 W2, r = .inr (τ, σ2) ∧ ZZ t Γ S' σ2 W2 (([τ], v, v) :: I, A, K) (g - 2) ∧ Qy t 0 1 σ σ2) (T := fun S' => Q none S') (zW_c (zr_local hD Γ S σ W (I, A, K) g d _ r Z wm hg (by omega) he her (fun τ σ2 S2 W2 a w Z2 q2 => ⟨τ, σ2, W2, w, Z2, q2⟩))) (fun v S2 ⟨τ, σ2, W2, w, Z2, q2⟩ => zW_rI (hk τ σ2 S2 W2 v w Z2 q2)) (fun _ q => q)
  · refine zW_f (by decide) ?_
    have := inf (by omega) ⟨no _ (by decide), no _ (by decide), no _ (by decide), no _ (by decide), no _ (by decide), no _ (by decide)⟩ ⟨fun z => rfl, fun z => wm⟩ ⟨fun z => absurd z (no _ (by decide)), fun z => by omega⟩
    exact this
  · rw [if_neg (no 26 (by decide)), if_neg (no 10 (by decide)), if_pos wm] at he
    refine zW_f (by decide) (zW_stepZ (by omega) Z h6 (by omega) he her (fun σ1 S1 W1 Z1 p1 he => zW_f (by decide) (zW_f (by decide) (zW_f (by decide) (zW_t (by decide) ?_)))))
    have q1 := Qx_p p1
    have dl1 := dep_le q1
    obtain ⟨u, hu, h1, h2⟩ := pB_e he
    obtain ⟨d, rfl⟩ : ∃ e, d = e + 1 := ⟨d - 1, by omega⟩
    refine zW_I (P := fun v S2 => ∃ vs σ2 W2 y2, ZZ t Γ S2 σ2 W2 ((gs vs, v, y2) :: I, A, K) (g - 4) ∧ Qx t 0 0 σ1 σ2 ∧ u = .inr (vs, σ2)) (T := fun S' => Q none S') (zW_c (h47 Γ S1 σ1 W1 (I, A, K) _ d _ u Z1 (by omega) (by omega) hu (fun e p S' w T => her e p S' (h1 _ w) T) (fun vs σ2 S2 W2 a y2 w Z2 q2 => ⟨vs, σ2, W2, y2, Z2, q2, w⟩))) (fun v S2 ⟨vs, σ2, W2, y2, Z2, q2, w⟩ => zW_let (zW_let ?_)) (fun _ q => q)
    have he := h2 _ _ w
    have q2 := Qx_to (Qx_t q1 q2) (k' := 0) (m' := 1) (by omega) (by omega)
    have dl2 := dep_le q2
    have e17 := ZZ_c Z2
    refine zW_nameZ (by omega) Z2 (by omega) he her (fun _ σ3 S3 W3 nm Z3 p3 he => zW_let ?_)
    have q3 := Qx_to (Qx_t q2 (Qx_p p3)) (k' := 0) (m' := 1) (by omega) (by omega)
    have dl3 := dep_le q3
    refine zW_needZ 40 (by decide) (by omega) Z3 (by omega) he her (fun _ σ4 S4 W4 Z4 p4 he => ?_)
    have q4 := Qx_to (Qx_t q3 (Qx_p p4)) (k' := 0) (m' := 1) (by omega) (by omega)
    have dl4 := dep_le q4
    refine zW_subZ h30 (by omega) Z4 (by omega) rfl he her (fun τ σ5 S5 W5 a Z5 _ q5 he => ?_)
    have q5 := Qx_to (Qx_t q4 q5) (k' := 0) (m' := 1) (by omega) (by omega)
    obtain ⟨hn, Z5⟩ := zK_t Z5
    exact zW_nodeZ (M0 := I) [(gs vs, v, y2), ([τ], a, a)] 73 [[((pc σ2).2.1 : Int)], (pc σ2).2.2.1] (τ :: gs vs) (by omega) Z5 (by omega) (by decide) rfl (zqc hn (zqc e17.2 zqn)) ⟨rfl, rfl, ⟨_, rfl, rfl⟩, rfl, rfl⟩ (fun f S6 Z6 => zW_rI (hk _ σ5 S6 W5 f (Option.some.inj he).symm (ZZ_mono Z6 (by omega)) (Qy_x q5)))
  · rw [if_pos wm] at he
    refine zW_f (by decide) (zW_stepZ (by omega) Z h6 (by omega) he her (fun σ1 S1 W1 Z1 p1 he => zW_f (by decide) (zW_f (by decide) (zW_f (by decide) (zW_f (by decide) (zW_t (by decide) ?_))))))
    have q1 := Qx_p p1
    have dl1 := dep_le q1
    simp only [pB_ite, pB_pT, pB_pR] at he
    have go : ∀ (w : Nat) σ2 S2 W2 g', (w = 70 ∨ w = 71) → ZZ t Γ S2 σ2 W2 (I, A, K) g' → g' ≤ g - 4 → Qx t 0 1 σ σ2 → (pB (R 42 [] [] σ2) fun l σ3 => pR (gn w [] (gs l)) σ3) = some r → zW (ZL d 371 [.inl (S.1 18), .inl (w : Int)] S2) Q := by
      intro w σ2 S2 W2 g' hw Z2 hg' q2 he
      have dl2 := dep_le q2
      refine zl_dec_p95 ?_
      unfold zb_dec_p95
      refine zW_loopR z54 h42 (by omega) Z2 (by omega) he (fun l σ' h => g42 _ l σ' h) her (fun l σ4 S4 W4 a y4 Z4 hl q4 he => ?_)
      have q4 := Qx_to (Qx_t q2 q4) (k' := 0) (m' := 1) (by omega) (by omega)
      rcases hw with rfl | rfl
      · exact zW_nodeZ (M0 := I) [(gs l, a, y4)] 70 [] (gs l) (by omega) Z4 (by omega) (by decide) rfl zqn ⟨rfl, rfl, rfl⟩ (fun f S5 Z5 => zW_rI (hk _ σ4 S5 W4 f (Option.some.inj he).symm (ZZ_mono Z5 (by omega)) (Qy_x q4)))
      · exact zW_nodeZ (M0 := I) [(gs l, a, y4)] 71 [] (gs l) (by omega) Z4 (by omega) (by decide) rfl zqn ⟨rfl, rfl, rfl⟩ (fun f S5 Z5 => zW_rI (hk _ σ4 S5 W4 f (Option.some.inj he).symm (ZZ_mono Z5 (by omega)) (Qy_x q4)))
    refine zW_hasZ 23 (by decide) (by omega) Z1 (by omega) he her (fun w he => zW_let (zW_t rfl ?_)) (fun w σ2 S2 W2 Z2 p2 he => zW_let (zW_f (by decide) ?_))
    · rw [if_neg w] at he
      exact go 70 σ1 S1 W1 _ (Or.inl rfl) Z1 (Int.le_refl _) q1 he
    · rw [if_pos w] at he
      exact go 71 σ2 S2 W2 _ (Or.inr rfl) Z2 (by omega) (Qx_to (Qx_t q1 (Qx_p p2)) (by omega) (by omega)) he
theorem gDT_0 {l : Gt} : gDT t 0 l σ = pR l σ := if_pos rfl
theorem pT_c {f f' : Ps → PR} (h : ∀ σ1, pPass t σ = .inr σ1 → f σ1 = f' σ1) : pT (pPass t σ) f = pT (pPass t σ) f' := by
  cases e : pPass t σ with
  | inl e => rfl
  | inr σ1 => exact h σ1 e
theorem pPass_c (h : pPass t σ = .inr σ1) : pc σ1 = pk σ := by
  unfold pPass at h
  split at h
  · cases h; rfl
  · split at h
    · cases h
    · cases h; rfl
theorem gDecs_N : pB (gDecs t top R σ) (fun l σ3 => gDT t top (gl (cs ++ gs l)) σ3) = pB (R 41 [] [] σ) (fun x σ1 => gDN t top (R 40 [top] []) (cs ++ [x]) σ1) := by
  unfold gDecs
  rw [pB_ass]
  congr 1
  funext x σ1
  unfold gDN cons1
  simp only [pB_ite, pB_pT, pB_ass, pB_pR, pB_pWr, gs_gl, List.append_assoc, List.singleton_append]
  by_cases h35 : pIs σ1 35
  · rw [if_pos h35]
    have nd : ¬ tDec (pc σ1) := by
      rintro ⟨-, w⟩
      rw [h35.2] at w
      revert w
      decide
    by_cases ht : top = 0
    · rw [if_pos ⟨h35, Or.inl ht⟩]
      exact pT_c fun σ2 _ => by simp only [if_pos ht]
    · by_cases hd : tDec (pk σ1)
      · rw [if_pos ⟨h35, Or.inr hd⟩]
        refine pT_c fun σ2 h2 => ?_
        have w : tDec (pc σ2) := by rw [pPass_c h2]; exact hd
        rw [if_pos w, if_pos w]
      · rw [if_neg (fun z => z.2.elim ht hd), if_neg nd]
        unfold gDT
        rw [if_neg ht, if_pos h35]
        refine pT_c fun σ2 h2 => ?_
        have w : ¬ tDec (pc σ2) := by rw [pPass_c h2]; exact hd
        rw [if_neg w, if_neg ht]
  · rw [if_neg h35, if_neg (fun z => h35 z.1)]
    split
    · rfl
    · unfold gDT
      split
      · rfl
      · rfl
theorem zr_decsL (h0 : top = 0 ∨ top = 1) (h41 : ZD1 t (R 41 [] []) 47 [] 16 (fun σ => tDec (pc σ))) (hL : ZL370 t top (R 40 [top] [])) : ZL370 t top (gDecs t top R) := by
  intro Γ S σ W cs x y I A K g d Q r Z hc hg hd he her hk
  have d40 := dep_40z Z
  unfold gDN at he
  simp only [gDecs_N] at he
  have go : ∀ σ' S' W' g', ZZ t Γ S' σ' W' ((cs, x, y) :: I, A, K) g' → g' ≤ g → Qy t 0 0 σ σ' → tDec (pc σ') → pB (R 41 [] [] σ') (fun x σ1 => gDN t top (R 40 [top] []) (cs ++ [x]) σ1) = some r → zW (ZL d 593 [.inl top, .inl x, .inl y, .inl 1] S') Q := by
    intro σ' S' W' g' Z' hg' q' wd he
    have dl := dep_ly q'
    obtain ⟨u, hu, h1, h2⟩ := pB_e he
    refine zl_decs_p57 ?_
    unfold zb_decs_p57
    obtain ⟨d, rfl⟩ : ∃ e, d = e + 1 := ⟨d - 1, by omega⟩
    refine zW_f (by decide) (zW_I (P := fun v S2 => ∃ τ σ2 W2, u = .inr (τ, σ2) ∧ ZZ t Γ S2 σ2 W2 (([τ], v, v) :: (cs, x, y) :: I, A, K) (g' - 2) ∧ Qy t 0 1 σ' σ2) (T := fun S' => Q none S') (zW_c (h41 Γ S' σ' W' (_, A, K) g' d _ u Z' wd (by omega) (by omega) hu (fun e p S' w T => her e p S' (h1 _ w) T) (fun τ σ2 S2 W2 a w Z2 q2 => ⟨τ, σ2, W2, w, Z2, q2⟩))) (fun v S2 ⟨τ, σ2, W2, w, Z2, q2⟩ => ?_) (fun _ q => q))
    refine zW_appR Z2 hc (by omega) (fun S4 e4 hb Z4 => zW_a hb ?_)
    rw [e4]
    have q2 := Qy_to (Qy_t q' q2) (k' := 0) (m' := 1) (by omega) (by omega)
    have dl2 := dep_ly q2
    exact zW_let (hL Γ S4 σ2 W2 _ x v I A K _ (d + 1) Q r Z4 (List.append_ne_nil_of_right_ne_nil _ (List.cons_ne_nil _ _)) (by omega) (by omega) (h2 _ _ w) her (fun τ' σ7 S7 W7 a' y' w Z7 o7 q7 => hk τ' σ7 S7 W7 a' y' w (ZZ_mono Z7 (by omega)) o7 (Qy_to (Qy_t q2 q7) rfl (by omega))))
  have ret : ∀ σ' S' W' g', ZZ t Γ S' σ' W' ((cs, x, y) :: I, A, K) g' → g' ≤ g → Qy t 0 0 σ σ' → pR (gl cs) σ' = some r → zW (ZL d 593 [.inl top, .inl x, .inl y, .inl 0] S') Q := by
    intro σ' S' W' g' Z' hg' q' he
    refine zl_decs_p57 ?_
    unfold zb_decs_p57
    refine zW_t rfl (zl_decs_p10 ?_)
    unfold zb_decs_p10
    exact zW_t rfl (zW_rI (hk _ σ' S' W' x y (Option.some.inj he).symm (by rw [gs_gl]; exact ZZ_mono Z' hg') ⟨by rw [gs_gl]; exact hc, by rw [gs_gl]⟩ q'))
  refine zl_decs_p10 ?_
  unfold zb_decs_p10
  obtain ⟨d, rfl⟩ : ∃ e, d = e + 2 := ⟨d - 2, by omega⟩
  refine zW_f (by decide) (zW_hasZ 35 (by decide) (by omega) Z (by omega) he her (fun _ he => zW_let (zW_tst (d := d + 1) (z_begDec Z) (fun w => zW_let (zW_f (by decide) ?_)) (fun w => zW_let (zW_t rfl (zW_t rfl ?_))))) (fun _ σ1 S1 W1 Z1 p1 he => zW_let (zW_tst (d := d + 1) (z_begDec Z1) (fun w => zW_let (zW_f (by decide) ?_)) (fun w => zW_let (zW_t rfl (zW_f (by decide) ?_))))))
  · rw [if_pos w] at he
    exact go σ S W g Z (Int.le_refl _) (Qy_x Qx_0) w he
  · rw [if_neg w] at he
    exact ret σ S W g Z (Int.le_refl _) (Qy_x Qx_0) he
  · rw [if_pos w] at he
    exact go σ1 S1 W1 _ Z1 (by omega) (Qy_x (Qx_to (Qx_p p1) rfl (by omega))) w he
  · rw [if_neg w] at he
    have e17 := ZZ_c Z1
    rcases h0 with rfl | rfl
    · rw [if_pos rfl] at he
      refine zW_t rfl ?_
      rw [e17.2]
      exact zW_thr (her _ _ _ (Option.some.inj he).symm (ThZ_th Z1 (by omega)))
    · rw [if_neg (by decide)] at he
      refine zW_f (by decide) (zW_if (fun w6 => ?_) (fun w6 => ?_))
      · rw [if_pos (by omega)] at he
        exact ret σ1 S1 W1 _ Z1 (by omega) (Qy_x (Qx_to (Qx_p p1) rfl (by omega))) he
      · rw [if_neg (by omega)] at he
        rw [e17.2]
        exact zW_thr (her _ _ _ (Option.some.inj he).symm (ThZ_th Z1 (by omega)))
/-- declarations, whole -/
abbrev gTop (t : List Int) (top : Int) (R : PX) : Ps → PR := fun σ => pB (gDecs t top R σ) (fun l σ3 => gDT t top (gl ([] ++ gs l)) σ3)
theorem zr_decsA (h41 : ZD1 t (R 41 [] []) 47 [] 16 (fun σ => tDec (pc σ))) (hL : ZL370 t top (R 40 [top] [])) : ZDf t (gTop t top R) 46 [.inl top] 20 := by
  intro Γ S σ W M g d Q r Z wd hg hd he her hk
  obtain ⟨I, A, K⟩ := M
  have d40 := dep_40z Z
  have he : gTop t top R σ = some r := he
  unfold gTop at he
  rw [gDecs_N] at he
  obtain ⟨u, hu, h1, h2⟩ := pB_e he
  refine zl_decs ?_
  unfold zb_decs
  obtain ⟨d, rfl⟩ : ∃ e, d = e + 1 := ⟨d - 1, by omega⟩
  refine zW_I (P := fun v S2 => ∃ τ σ2 W2, u = .inr (τ, σ2) ∧ ZZ t Γ S2 σ2 W2 (([τ], v, v) :: I, A, K) (g - 2) ∧ Qy t 0 1 σ σ2) (T := fun S' => Q none S') (zW_c (h41 Γ S σ W (_, A, K) g d _ u Z wd (by omega) (by omega) hu (fun e p S' w T => her e p S' (h1 _ w) T) (fun τ σ2 S2 W2 a w Z2 q2 => ⟨τ, σ2, W2, w, Z2, q2⟩))) (fun v S2 ⟨τ, σ2, W2, w, Z2, q2⟩ => zW_let (zW_let (zW_let ?_))) (fun _ q => q)
  have dl2 := dep_ly q2
  exact hL Γ S2 σ2 W2 [τ] v v I A K _ (d + 1) Q r Z2 (List.cons_ne_nil _ _) (by omega) (by omega) (h2 _ _ w) her (fun τ' σ7 S7 W7 a' y' w Z7 o7 q7 => hk τ' σ7 S7 W7 a' y' w Z7 o7 (Qy_to (Qy_t q2 q7) rfl (by omega)))
/-! results that are rows -/
def isGx (x : PR) : Prop := ∀ l σ1, x = some (.inr (l, σ1)) → l = gl (gs l)
theorem isGx_R {s : List Gt} : isGx (pR (gl s) σ) := by
  intro l σ1 h
  cases h
  rw [gs_gl]
theorem isGx_W : isGx (pWr σ) := fun _ _ h => (by cases h)
theorem isGx_B {x : PR} {f : Gt → Ps → PR} (h : ∀ τ σ, isGx (f τ σ)) : isGx (pB x f) := by
  rcases x with _ | _ | ⟨τ, σ⟩
  · exact fun _ _ h => (by cases h)
  · exact fun _ _ h => (by cases h)
  · exact h τ σ
theorem isGx_T {x : (Int × Nat) ⊕ Ps} {f : Ps → PR} (h : ∀ σ, isGx (f σ)) : isGx (pT x f) := by
  cases x with
  | inl e => exact fun _ _ h => (by cases h)
  | inr σ => exact h σ
theorem isGx_I {c : Prop} {i : Decidable c} {a b : PR} (h1 : isGx a) (h2 : isGx b) : isGx (@ite PR c i a b) := by
  split
  · exact h1
  · exact h2
theorem isGx_c {x : Gt} {y : PR} : isGx (cons1 x y) := isGx_B fun _ _ => isGx_R
theorem isGx_N {f : Ps → PR} (h : ∀ σ, isGx (f σ)) : isGx (pNeed t m σ f) := isGx_I (isGx_T h) isGx_W
theorem isGx_M {f : List Int → Ps → PR} (h : ∀ b σ, isGx (f b σ)) : isGx (pName t σ f) := isGx_I (isGx_T (h _)) isGx_W
theorem isGx_O {f : Nat → List Int → Ps → PR} (h : ∀ q b σ, isGx (f q b σ)) : isGx (pOpn t σ f) := isGx_I (isGx_T fun _ => isGx_I (isGx_T (h _ _)) isGx_W) (isGx_M (h _))
theorem gCons_Gl : isGl (gCons t R) := by
  intro σ
  show isGx (gCons t R σ)
  unfold gCons pBn
  refine isGx_O fun q b σ1 => ?_
  refine isGx_B fun ys σ2 => ?_
  exact isGx_I (isGx_T fun _ => isGx_c) isGx_R
theorem gDecs_Gl : isGl (gDecs t top R) := fun _ => isGx_B fun _ _ => isGx_I (isGx_T fun _ => isGx_I isGx_c isGx_W) (isGx_I isGx_c isGx_R)
theorem gBinds_Gl : isGl (gBinds t R) := fun _ => isGx_B fun _ _ => isGx_N fun _ => isGx_B fun _ _ => isGx_I (isGx_T fun _ => isGx_c) isGx_R
theorem gFuns_Gl : isGl (gFuns t R) := fun _ => isGx_B fun _ _ => isGx_I (isGx_T fun _ => isGx_c) isGx_R
theorem gDatas_Gl : isGl (gDatas t R) := fun _ => isGx_B fun _ _ => isGx_M fun _ _ => isGx_N fun _ => isGx_B fun _ _ => isGx_I (isGx_T fun _ => isGx_c) isGx_R
theorem zr_decs0 (h41 : ZD1 t (R 41 [] []) 47 [] 16 (fun σ => tDec (pc σ))) (hL : ZL370 t 0 (R 40 [0] [])) : ZDf t (gDecs t 0 R) 46 [.inl 0] 20 := by
  have e : gTop t 0 R = gDecs t 0 R := by
    funext σ
    show pB (gDecs t 0 R σ) _ = _
    cases h : gDecs t 0 R σ with
    | none => rfl
    | some q =>
      rcases q with q | ⟨l, σ1⟩
      · rfl
      · show gDT t 0 (gl ([] ++ gs l)) σ1 = _
        rw [gDT_0, List.nil_append, ← gDecs_Gl σ l σ1 h]
        rfl
  rw [← e]
  exact zr_decsA h41 hL
end ZDec2
