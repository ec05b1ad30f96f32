set_option maxRecDepth 100000
/-! THE REFERENCE'S PARSER: type variables, bindings, constructors, datatypes, exceptions -/
abbrev okRow : Gt → ZS → Int → Prop := fun τ _ _ => gs τ ≠ [] ∧ τ = gl (gs τ)
abbrev Lxy : Ps → List Gt → Int → Int → List ZV → Prop := fun _ _ x y as => as = [.inl x, .inl y, .inl 1]
abbrev FgL : List Gt → Ps → PR := fun l σ => pR (gl l) σ
/-- perhaps nothing: a row -/
def ZVf (t : List Int) (fs : Ps → PR) (tag lev : Nat) : Prop :=
  ∀ (Γ : Zg) (S : ZS) (σ : Ps) (W : List (List Int)) (M : Zm) (g : Int) (d : Nat) (Q : Option (Option ZV) → ZS → Prop) (r : (Int × Nat) ⊕ (Gt × Ps)), ZZ t Γ S σ W M g → g ≤ 150 → dep t σ + lev ≤ d → fs σ = some r →
    (∀ e p S', r = .inl (e, p) → ThZ t Γ S' e p → Q none S') →
    (∀ τ σ1 S1 W1 a y, r = .inr (τ, σ1) → ZZ t Γ S1 σ1 W1 ((gs τ, a, y) :: M.1, M.2) g → Qx t 0 0 σ σ1 → Q (some (some (.inl a))) S1) → zW (ZL d tag [] S) Q
def ZL407 (t : List Int) (fs : Int → Ps → PR) : Prop :=
  ∀ (Γ : Zg) (S : ZS) (σ : Ps) (W : List (List Int)) (cs : List Gt) (x y : Int) (I : List Zi) (A : List Int × List (Int × Int × Int)) (K : List Zk) (g : Int) (d : Nat) (Q : Option (Option ZV) → ZS → Prop) (r : (Int × Nat) ⊕ (Gt × Ps)), ZZ t Γ S σ W ((cs, x, y) :: I, A, K) g → cs ≠ [] → cs.length ≤ 8 → 0 < pd σ → g ≤ 150 → dep t σ + 1 ≤ d → pB (if pIs σ 34 then pT (pPass t σ) (fun σ2 => fs (cs.length : Int) σ2) else pR (gl []) σ) (fun l σ1 => pCloses t 29 σ1 fun σ3 => pR (gl (cs ++ gs l)) σ3) = some r →
    (∀ e p S', r = .inl (e, p) → ThZ t Γ S' e p → Q none S') →
    (∀ τ σ1 S1 W1 a y', r = .inr (τ, σ1) → ZZ t Γ S1 σ1 W1 ((gs τ, a, y') :: I, A, K) g → Qx t (-1) 0 σ σ1 → Q (some (some (.inl a))) S1) → zW (ZL d 407 [.inl x, .inl y, .inl (cs.length : Int)] S) Q
section ZDcl
variable {t : List Int} {Γ : Zg} {S S' : ZS} {σ σ1 : Ps} {W W' : List (List Int)} {M : Zm} {g g' G : Int} {d n tag m : Nat} {Q : Option (Option ZV) → ZS → Prop} {r : (Int × Nat) ⊕ (Gt × Ps)} {I : List Zi} {A : List Int × List (Int × Int × Int)} {K : List Zk} {cs cs2 : List Gt} {x y z p x2 c q y2 m0 : Int} {τ b : Gt} {R R' : PX} {o o' : ZO} {lo hi : Int} {F : Fx} {f : Ps → PR}
/-- a type variable -/
theorem zW_varZ {kk : Int → ZS → ZR ZS} (hd : 7 ≤ d) (Z : ZZ t Γ S σ W (I, A, K) g) (h2 : (pc σ).1 = 2) (hg : g ≤ 160) (he : pT (pPass t σ) f = some r) (her : ∀ e p S', r = .inl (e, p) → ThZ t Γ S' e p → Q none S') (hk : ∀ σ1 S1 W1 a, ZZ t Γ S1 σ1 W1 (([gn 50 [[((pc σ).2.1 : Int)], (pc σ).2.2.1] []], a, a) :: I, A, K) (g - 3) → Pn t σ σ1 → f σ1 = some r → zW (kk a S1) Q) : zW (zI (zc ZL d 101 [] S) kk) Q := by
  obtain ⟨d, rfl⟩ : ∃ e, d = e + 1 := ⟨d - 1, by omega⟩
  have e17 := ZZ_c Z
  refine zW_I (P := fun v S' => zW (kk v S') Q) (T := fun S' => Q none S') (zW_c (zl_variable ?_)) (fun _ _ q => q) (fun _ q => q)
  unfold zb_variable
  exact zW_nodeZ (M0 := I) [] 50 [[((pc σ).2.1 : Int)], (pc σ).2.2.1] [] (by omega) Z (by omega) (by decide) rfl (zqc e17.2 (zqc (ZZ_nm Z (by omega)) zqn)) rfl (fun a S1 Z1 => zW_let (zW_stepZ (by omega) Z1 (by omega) (by omega) he her (fun σ1 S2 W2 Z2 p2 he => zW_rI (hk σ1 S2 W2 a (ZZ_mono Z2 (by omega)) p2 he))))
theorem zr_varsL (hL : ZL407 t (fun m => R 48 [m] [])) : ZL407 t (fun m => gVarsR t m R) := by
  intro Γ S σ W cs x y I A K g d Q r Z hc h8 hp hg hd he her hk
  have d40 := dep_40z Z
  simp only [pB_ite, pB_pT, pB_pR, gs_gl] at he
  refine zl_variables_p50 ?_
  unfold zb_variables_p50
  refine zW_hasZ 34 (by decide) (by omega) Z (by omega) he her (fun _ he => zW_t rfl ?_) (fun _ σ1 S1 W1 Z1 p1 he => zW_f (by decide) ?_)
  · rw [List.append_nil] at he
    refine zW_closesZ 29 (by decide) hp (by omega) Z (by omega) he her (fun _ σ2 S2 W2 Z2 p2 he => zW_rI ?_)
    exact hk _ σ2 S2 W2 x y (Option.some.inj he).symm (by rw [gs_gl]; exact ZZ_mono Z2 (by omega)) (Qx_to (Qx_o p2) (by omega) (by omega))
  · have q1 := Qx_p p1
    have dl1 := dep_le q1
    have e17 := ZZ_c Z1
    unfold gVarsR at he
    refine zW_if (fun w => ?_) (fun w => ?_)
    · have h2 : (pc σ1).1 = 2 := by omega
      rw [if_neg (fun z => z h2)] at he
      refine zW_if (fun w8 => ?_) (fun w8 => ?_)
      · rw [if_pos w8] at he
        rw [e17.2]
        exact zW_thr (her _ _ _ (Option.some.inj he).symm (ThZ_th Z1 (by omega)))
      · rw [if_neg w8] at he
        simp only [pB_pT, pB_ite, pB_pR, gs_gl, cons1, pB_ass] at he
        refine zW_varZ (by omega) Z1 h2 (by omega) he her (fun σ3 S3 W3 a Z3 p3 he => ?_)
        have q3 := Qx_to (Qx_t q1 (Qx_p p3)) (k' := 0) (m' := 2) (by omega) (by omega)
        have dl3 := dep_le q3
        refine zW_appR Z3 hc (by omega) (fun S4 e4 hb Z4 => zW_a hb ?_)
        rw [e4]
        refine zW_let (zW_G (by omega) (zW_let ?_))
        have hl1 : (cs ++ [gn 50 [[((pc σ1).2.1 : Int)], (pc σ1).2.2.1] []]).length = cs.length + 1 := by rw [List.length_append]; rfl
        have := hL Γ S4 σ3 W3 (cs ++ [gn 50 [[((pc σ1).2.1 : Int)], (pc σ1).2.2.1] []]) x a I A K _ d Q r Z4 (List.append_ne_nil_of_right_ne_nil _ (List.cons_ne_nil _ _)) (by rw [hl1]; omega) (by have := q3.1; omega) (by omega) (by omega) (by
          rw [hl1]
          simp only [pB_ite, pB_pT, pB_pR, gs_gl, List.append_nil, List.append_assoc, List.singleton_append]
          exact he) her (fun τ' σ7 S7 W7 a' y' w Z7 q7 => hk τ' σ7 S7 W7 a' y' w (ZZ_mono Z7 (by omega)) (Qx_to (Qx_t q3 q7) (by omega) (by omega)))
        rw [hl1] at this
        exact this
    · rw [if_pos (fun z => w (by omega))] at he
      rw [e17.2]
      exact zW_thr (her _ _ _ (Option.some.inj he).symm (ThZ_th Z1 (by omega)))
theorem zr_vars (h48 : ∀ (m : Int) σ, PLe (R 48 [m] [] σ) (gVarsR t m R' σ)) (hL : ZL407 t (fun m => R' 48 [m] [])) : ZVf t (gVars t R) 100 1 := by
  intro Γ S σ W M g d Q r Z hg hd he her hk
  obtain ⟨I, A, K⟩ := M
  have d40 := dep_40z Z
  have e17 := ZZ_c Z
  unfold gVars at he
  refine zl_variables ?_
  unfold zb_variables
  refine zW_if (fun w => ?_) (fun w => ?_)
  · rw [if_pos (by omega)] at he
    exact zW_varZ (by omega) Z (by omega) (by omega) he her (fun σ1 S1 W1 a Z1 p1 he => zW_rI (hk _ σ1 S1 W1 a a (Option.some.inj he).symm (by rw [gs_gl]; exact ZZ_mono Z1 (by omega)) (Qx_to (Qx_p p1) rfl (by omega))))
  · rw [if_neg (by omega)] at he
    refine zW_isZ 28 (by decide) (by omega) Z (fun w => zW_f (by decide) ?_) (fun w => zW_t rfl ?_)
    · rw [if_pos w] at he
      refine zW_opensZ (by omega) Z (by have := w.1; omega) (by omega) he her (fun hp σ1 S1 W1 Z1 p1 he => ?_)
      have q1 := Qx_to (Qx_o p1) (k' := 1) (m' := 1) (by omega) (by omega)
      have dl1 := dep_op q1 hp
      have hp1 := p1.2.1
      have e17' := ZZ_c Z1
      replace he := pB_le (h48 0 σ1) he
      unfold gVarsR at he
      refine zW_if (fun w => ?_) (fun w => ?_)
      · have h2 : (pc σ1).1 = 2 := by omega
        rw [if_neg (fun z => z h2), if_neg (by decide)] at he
        simp only [pB_pT, pB_ite, pB_pR, gs_gl, cons1, pB_ass] at he
        refine zW_varZ (by omega) Z1 h2 (by omega) he her (fun σ3 S3 W3 a Z3 p3 he => zW_let (zW_let (zW_let ?_)))
        have q3 := Qx_to (Qx_t q1 (Qx_p p3)) (k' := 1) (m' := 2) (by omega) (by omega)
        have dl3 := dep_op q3 hp
        exact hL Γ S3 σ3 W3 [gn 50 [[((pc σ1).2.1 : Int)], (pc σ1).2.2.1] []] a a I A K _ d Q r Z3 (List.cons_ne_nil _ _) (by show 1 ≤ 8; decide) (by have := q3.1; omega) (by omega) (by omega) (by
          simp only [pB_ite, pB_pT, pB_pR, gs_gl, List.append_nil, List.singleton_append]
          exact he) her (fun τ' σ7 S7 W7 a' y' w Z7 q7 => hk τ' σ7 S7 W7 a' y' w (ZZ_mono Z7 (by omega)) (Qx_to (Qx_t q3 q7) (by omega) (by omega)))
      · rw [if_pos (fun z => w (by omega))] at he
        rw [e17'.2]
        exact zW_thr (her _ _ _ (Option.some.inj he).symm (ThZ_th Z1 (by omega)))
    · rw [if_neg w] at he
      exact zW_rI (hk _ σ S W (-1) (-1) (Option.some.inj he).symm (by rw [gs_gl]; exact ZZ_e Z) Qx_0)
/-- bindings -/
theorem zr_bindsL (h20 : ZCf t (R 20 [] []) 55 noA 7 one okP) (h0 : ZCf t (R 0 [] []) 82 noA 10 one okEz) (hL : ZLn t (R 42 [] []) 373 9 Lxy FgL 0 imRz okRow (-2)) : ZLn t (gBinds t R) 373 9 Lxy FgL 0 imRz okRow (-2) := by
  intro Γ S σ W cs x y I A K g d Q r as Z ga hg hp hd he her hk
  cases ga
  have d40 := dep_40z Z
  unfold gBinds at he
  simp only [pB_pT, pB_ite, pB_pR, pB_pWr, pB_in, pB_ass, pB_pNeed, pB_pOpens, pB_pCloses, pB_pName, pB_pAny, pB_pOpn, pB_pLab, gs_gl, cons1] at he
  refine zl_binds_p6 ?_
  unfold zb_binds_p6
  refine zW_f (by decide) (zW_subZ h20 (by omega) Z (by omega) rfl he her (fun p σ1 S1 W1 a Z1 o1 q1 he => zW_let ?_))
  have dl1 := dep_le q1
  refine zW_needZ 40 (by decide) (by omega) Z1 (by omega) he her (fun _ σ2 S2 W2 Z2 p2 he => ?_)
  have q2 := Qx_to (Qx_t q1 (Qx_p p2)) (k' := 0) (m' := 2) (by omega) (by omega)
  have dl2 := dep_le q2
  refine zW_subZ h0 (by omega) Z2 (by omega) rfl he her (fun e σ3 S3 W3 b Z3 _ q3 he => zW_let ?_)
  have q3 := Qx_to (Qx_t q2 q3) (k' := 0) (m' := 3) (by omega) (by omega)
  have dl3 := dep_le q3
  refine zW_whZ 1 Z3 (by omega) rfl (kPa_Z o1) ?_
  refine zW_node78 true (by omega) Z3 (by omega) (fun f S4 Z4 => zW_let ?_)
  refine zW_rowZ (KK := fun x' S' => ZL d 595 [.inl x', .inl f] S') Z4 (by omega) (fun x' S5 Z5 => zl_binds_p73 ?_)
  unfold zb_binds_p73
  refine zW_let (zW_hasZ 0 (by decide) (by omega) Z5 (by omega) he her (fun _ he => zW_let (zl_binds_p6 ?_)) (fun _ σ6 S6 W6 Z6 p6 he => zW_let ?_))
  · unfold zb_binds_p6
    exact zW_t rfl (zW_rI (hk _ σ3 S5 W3 x' f (Option.some.inj he).symm (by show ZZ t Γ S5 σ3 W3 ((gs (gl (cs ++ [gn 78 [] [p, e]])), x', f) :: I, A, K) _; rw [gs_gl]; exact ZZ_mono Z5 (by omega)) ⟨by rw [gs_gl]; exact List.append_ne_nil_of_right_ne_nil _ (List.cons_ne_nil _ _), by rw [gs_gl]⟩ (Qx_to q3 rfl (by omega))))
  · have q6 := Qx_to (Qx_t q3 (Qx_p p6)) (k' := 0) (m' := 3) (by omega) (by omega)
    have dl6 := dep_le q6
    have he : pB (R 42 [] [] σ6) (fun l σ7 => FgL ((cs ++ [gn 78 [] [p, e]]) ++ gs l) σ7) = some r := by
      simp only [List.append_assoc, List.singleton_append]
      exact he
    exact hL Γ S6 σ6 W6 _ x' f I A K _ d Q r _ Z6 rfl (by omega) (by have := q6.1; omega) (by omega) he her (fun τ' σ7 S7 W7 a' y' w Z7 o7 q7 => hk τ' σ7 S7 W7 a' y' w (ZZ_mono Z7 (by omega)) o7 (Qx_to (Qx_t q6 q7) (by omega) (by omega)))
end ZDcl
