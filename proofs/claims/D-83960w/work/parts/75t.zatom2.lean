set_option maxRecDepth 100000
/-! THE REFERENCE'S PARSER: atoms -/
/-- declarations: a row; infix names may change -/
def ZDf (t : List Int) (fs : Ps → PR) (tag : Nat) (as : List ZV) (lev : Nat) : Prop :=
  ∀ (Γ : Zg) (S : ZS) (σ : Ps) (W : List (List Int)) (M : Zm) (g : Int) (d : Nat) (Q : Option (Option ZV) → ZS → Prop) (r : (Int × Nat) ⊕ (Gt × Ps)), ZZ t Γ S σ W M g → tDec (pc σ) → g ≤ 150 → dep t σ + lev ≤ d → fs σ = some r →
    (∀ e p S', r = .inl (e, p) → ThZ t Γ S' e p → Q none S') →
    (∀ τ σ1 S1 W1 a y, r = .inr (τ, σ1) → ZZ t Γ S1 σ1 W1 ((gs τ, a, y) :: M.1, M.2) (g - 2) → gs τ ≠ [] ∧ τ = gl (gs τ) → Qy t 0 1 σ σ1 → Q (some (some (.inl a))) S1) → zW (ZL d tag as S) Q
abbrev F15 (t : List Int) (p : Int) : List Gt → Ps → PR := fun l σ => pCloses t 33 σ (fun σ3 => pR (gn 5 [[p]] l) σ3)
abbrev L15 (p : Int) : Ps → List Gt → Int → Int → List ZV → Prop := fun _ _ x y as => as = [.inl p, .inl x, .inl y, .inl 1]
abbrev okex : Gt → ZS → Int → Prop := fun τ _ _ => gk τ ∈ kEx
section ZAt2
variable {t : List Int} {Γ : Zg} {S S' : ZS} {σ σ1 : Ps} {W W' : List (List Int)} {M : Zm} {g g' G : Int} {d n tag m : Nat} {Q : Option (Option ZV) → ZS → Prop} {r : (Int × Nat) ⊕ (Gt × Ps)} {I : List Zi} {A : List Int × List (Int × Int × Int)} {K : List Zk} {cs cs2 : List Gt} {x y z p x2 c q y2 m0 : Int} {τ b : Gt} {R R' : PX} {o o' : ZO} {lo hi : Int} {F : Fx}
theorem zr_erowEnd (hd : 8 ≤ d) (hp : 0 < pd σ) (Z : ZZ t Γ S σ W ((cs, x, y) :: I, A, K) g) (hg : g ≤ 160) (he : F15 t p cs σ = some r) (her : ∀ e p S', r = .inl (e, p) → ThZ t Γ S' e p → Q none S') (hk : ∀ τ σ1 S1 W1 a y', r = .inr (τ, σ1) → ZZ t Γ S1 σ1 W1 (([τ], a, y') :: I, A, K) (g - 3) → gk τ ∈ kEx → Qx t (-1) 0 σ σ1 → Q (some (some (.inl a))) S1) : zW (ZL d 393 [.inl p, .inl x, .inl y, .inl 0] S) Q := by
  refine zl_expressionRow_p24 ?_
  unfold zb_expressionRow_p24
  refine zW_t rfl (zW_closesZ 33 (by decide) hp (by omega) Z (by omega) he her (fun q σ1 S1 W1 Z1 p1 he => ?_))
  exact zW_nodeZ (M0 := I) [(cs, x, y)] 5 [[p]] cs (by omega) Z1 (by omega) (by decide) rfl (zqc rfl zqn) ⟨rfl, rfl, rfl⟩ (fun a S2 Z2 => zW_rI (hk _ σ1 S2 W1 a a (Option.some.inj he).symm (ZZ_mono Z2 (by omega)) (by show 5 ∈ kEx; decide) (Qx_to (Qx_o p1) (by omega) (by omega))))
theorem zr_eflds (h0 : ZCf t (R 0 [] []) 82 noA 10 one okEz) (hL : ZLn t (R 15 [] []) 393 10 (L15 p) (F15 t p) (-1) one okex 0) : ZLn t (gFldE t R) 393 10 (L15 p) (F15 t p) (-1) one okex 0 := by
  intro Γ S σ W cs x y I A K g d Q r as Z ga hg hp hd he her hk
  cases ga
  have d40 := dep_40z Z
  have e18 := (ZZ_c Z).2
  unfold gFldE at he
  simp only [pB_pT, pB_ite, pB_pR, pB_pWr, pB_in, pB_ass, pB_pNeed, pB_pOpens, pB_pCloses, pB_pName, pB_pAny, pB_pOpn, pB_pLab, gs_gl, cons1] at he
  refine zl_expressionRow_p24 ?_
  unfold zb_expressionRow_p24
  refine zW_f (by decide) (zW_let (zW_labZ (by omega) Z (by omega) he her (fun σ1 S1 W1 l b _ Z1 p1 he => zW_let ?_)))
  have q1 := Qx_p p1
  have dl1 := dep_le q1
  refine zW_needZ 40 (by decide) (by omega) Z1 (by omega) he her (fun _ σ2 S2 W2 Z2 p2 he => ?_)
  have q2 := Qx_to (Qx_t q1 (Qx_p p2)) (k' := 0) (m' := 2) (by omega) (by omega)
  have dl2 := dep_le q2
  refine zW_subZ h0 (by omega) Z2 (by omega) rfl he her (fun τ σ3 S3 W3 a Z3 _ q3 he => ?_)
  have q3 := Qx_to (Qx_t q2 q3) (k' := 0) (m' := 3) (by omega) (by omega)
  have dl3 := dep_le q3
  obtain ⟨hl, Z3⟩ := zK_f Z3
  refine zW_nodeZ (M0 := (cs, x, y) :: I) [([τ], a, a)] 60 [[((pc σ).2.1 : Int)], b] [τ] (by omega) Z3 (by omega) (by decide) rfl (zqc e18 (zqc hl zqn)) ⟨⟨_, rfl, rfl⟩, rfl, rfl⟩ (fun f S4 Z4 => zW_let ?_)
  refine zW_rowZ (KK := fun x' S' => ZL d 606 [.inl p, .inl x', .inl f] S') Z4 (by omega) (fun x' S5 Z5 => zl_expressionRow_p84 ?_)
  unfold zb_expressionRow_p84
  refine zW_let (zW_hasZ 34 (by decide) (by omega) Z5 (by omega) he her (fun _ he => zW_let ?_) (fun _ σ6 S6 W6 Z6 p6 he => zW_let ?_))
  · exact zr_erowEnd (by omega) (by have := q3.1; omega) Z5 (by omega) he her (fun τ' σ7 S7 W7 a' y' w Z7 o7 q7 => hk τ' σ7 S7 W7 a' y' w (ZZ_mono Z7 (by omega)) o7 (Qx_to (Qx_t q3 q7) (by omega) (by omega)))
  · have q6 := Qx_to (Qx_t q3 (Qx_p p6)) (k' := 0) (m' := 3) (by omega) (by omega)
    have dl6 := dep_le q6
    have he : pB (R 15 [] [] σ6) (fun l σ7 => F15 t p ((cs ++ [gn 60 [[((pc σ).2.1 : Int)], b] [τ]]) ++ gs l) σ7) = some r := by
      simp only [List.append_assoc, List.singleton_append]
      exact he
    exact hL Γ S6 σ6 W6 _ x' f I A K _ d Q r _ Z6 rfl (by omega) (by have := q6.1; omega) (by omega) he her (fun τ' σ7 S7 W7 a' y' w Z7 o7 q7 => hk τ' σ7 S7 W7 a' y' w (ZZ_mono Z7 (by omega)) o7 (Qx_to (Qx_t q6 q7) (by omega) (by omega)))
abbrev gERow (t : List Int) (R : PX) : Ps → PR := fun σ => pOpens t σ fun σ1 => pB (if pIs σ1 33 then pR (gl []) σ1 else R 15 [] [] σ1) fun l σ2 => F15 t ((pc σ).2.1 : Int) (gs l) σ2
theorem zr_erow (hL : ∀ p : Int, ZLn t (R 15 [] []) 393 10 (L15 p) (F15 t p) (-1) one okex 0) : ZCf t (nE 32 (gERow t R)) 81 atA 0 one okEz := by
  intro Γ S σ W M g d Q r Z hg hd he her hk
  obtain ⟨I, A, K⟩ := M
  have d40 := dep_40z Z
  obtain ⟨w32, he⟩ := nE_is he
  unfold gERow at he
  simp only [pB_pT, pB_ite, pB_pR, pB_pWr, pB_in, pB_ass, pB_pNeed, pB_pOpens, pB_pCloses, pB_pName, pB_pAny, pB_pOpn, pB_pLab, gs_gl, cons1] at he
  refine zl_expressionRow ?_
  unfold zb_expressionRow
  refine zW_opensZ (by omega) Z (by have := w32.1; omega) (by omega) he her (fun hp σ1 S1 W1 Z1 p1 he => zW_let (zW_let ?_))
  have q1 := Qx_to (Qx_o p1) (k' := 1) (m' := 1) (by omega) (by omega)
  have dl1 := dep_op q1 hp
  have hp1 := p1.2.1
  refine zW_isZ 33 (by decide) (by omega) Z1 (fun w => zW_f (by decide) (zW_let ?_)) (fun w => zW_t rfl (zW_let ?_))
  · rw [if_pos w] at he
    exact zr_erowEnd (by omega) (by omega) (ZZ_e Z1) (by omega) he her (fun τ' σ7 S7 W7 a' y' w Z7 o7 q7 => hk τ' σ7 S7 W7 a' y' w (ZZ_mono Z7 (by omega)) o7 (Qx_to (Qx_t q1 q7) (by omega) (by omega)))
  · rw [if_neg w] at he
    exact hL _ Γ S1 σ1 W1 [] (-1) (-1) I A K _ d Q r _ (ZZ_e Z1) rfl (by omega) (by omega) (by omega) he her (fun τ' σ7 S7 W7 a' y' w Z7 o7 q7 => hk τ' σ7 S7 W7 a' y' w (ZZ_mono Z7 (by omega)) o7 (Qx_to (Qx_t q1 q7) (by omega) (by omega)))
/-- infix names as they were -/
theorem ZZ_47 (Z : ZZ t Γ S σ W (I, A, kF x F :: K) g) : ZZ t Γ (zput S 47 x) (psF σ F) W (I, A, K) g := by
  obtain ⟨hF, Z⟩ := ZZ_k1 Z
  have hF : zFc S W x F := hF
  obtain ⟨⟨a1, a2, a3, a4, a5⟩, b, c1, c2, c3, c4, c5, c6, c7⟩ := Z
  have ag : zAg [47] [] S (zput S 47 x) := zAg_put (by decide) zAg_refl
  have zs : zseq S (zput S 47 x) := ⟨Int.le_refl _, fun _ _ => rfl, Int.le_refl _, fun _ _ => ⟨rfl, rfl⟩⟩
  have zn : znod S (zput S 47 x) := ⟨rfl, rfl, fun _ _ _ => rfl⟩
  exact ⟨⟨Lx_ag ag (by decide) (by decide) a1, ⟨NT_ag ag (by decide) (by decide) a2.1, a2.2⟩, TkC_re a3 ag (by decide) List.prefix_rfl (Int.le_refl _) (fun _ _ => rfl), TkM_re a4 ag (by decide) List.prefix_rfl (Int.le_refl _) (fun _ _ => rfl), a5⟩, b, c1, zFc_k zs.2.2.1 zs.2.2.2 List.prefix_rfl hF, c3, zits_nod zn zs List.prefix_rfl c4, ⟨c5.1, c5.2.1, c5.2.2.1, zA_e (S := S) rfl c5.2.2.2.1, zB_e (S := S) ⟨rfl, rfl, rfl⟩ c5.2.2.2.2⟩, fun q z => zks_k zs List.prefix_rfl (c6 q z), Zmo_trans c7 ⟨zAg_mono ag (by decide) (by decide), List.prefix_rfl, Int.le_refl _, fun _ _ _ _ _ _ => rfl, fun _ _ => rfl, Int.le_refl _, fun _ _ => rfl, Int.le_refl _, fun _ _ => ⟨rfl, rfl⟩⟩⟩
theorem ZZ_kF (Z : ZZ t Γ S σ W (I, A, K) g) : ZZ t Γ S σ W (I, A, kF (S.1 47) (pF σ) :: K) g := ZZ_k Z Z.2.2.2.1
theorem dep_oy {k : Nat} (h : Qy t 1 k σ σ1) (hp : pd σ < 40) : dep t σ1 + 40 + 2 * k ≤ dep t σ := by
  have h1 := h.1
  have h2 := h.2.2.1
  have : pd σ1 = pd σ + 1 := by omega
  unfold dep
  rw [this]
  omega
theorem zr_let (hD : ZDf t (R 40 [0] []) 46 [.inl 0] 20) (h90 : ZCf t (gRowE R 35) 90 (fun _ => [.inl 35]) 11 imRz okR) : ZCf t (nE 16 (gLet t R)) 91 atA 0 one okEz := by
  intro Γ S σ W M g d Q r Z hg hd he her hk
  obtain ⟨I, A, K⟩ := M
  have d40 := dep_40z Z
  obtain ⟨w16, he⟩ := nE_is he
  unfold gLet gDecs0 at he
  refine zl_let ?_
  unfold zb_let
  have Z := ZZ_kF Z
  generalize S.1 47 = x47 at Z
  refine zW_let ?_
  refine zW_opensZ (by omega) Z (by have := w16.1; omega) (by omega) he her (fun hp σ1 S1 W1 Z1 p1 he => ?_)
  have q1 := Qx_to (Qx_o p1) (k' := 1) (m' := 1) (by omega) (by omega)
  have dl1 := dep_op q1 hp
  have fin : ∀ (ds : Gt) σ2 S2 W2 a y, ZZ t Γ S2 σ2 W2 ((gs ds, a, y) :: I, A, kF x47 (pF σ) :: K) (g - 4) → Qy t 1 1 σ σ2 → (pNeed t 13 σ2 fun σ3 => pB (R 0 [] [] σ3) fun e σ4 => pB (R 14 [35, 0] [] σ4) fun l σ5 => pCloses t 7 σ5 fun σ6 => pR (gn 18 [[((pc σ).2.1 : Int)]] [gn 63 [] (gs ds), gl (e :: gs l)]) (psF σ6 (pF σ))) = some r → zW (ZL d 401 [.inl ((pc σ).2.1 : Int), .inl x47, .inl a] S2) Q := by
    intro ds σ2 S2 W2 a y Z2 q2 he
    have dl2 := dep_oy q2 hp
    refine zl_let_p25 ?_
    unfold zb_let_p25
    refine zW_let (zW_needZ 13 (by decide) (by omega) Z2 (by omega) he her (fun _ σ3 S3 W3 Z3 p3 he => ?_))
    have q3 := Qy_to (Qy_t q2 (Qy_x (Qx_p p3))) (k' := 1) (m' := 1) (by omega) (by omega)
    have dl3 := dep_oy q3 hp
    have he : pB (gRowE R 35 σ3) (fun l σ5 => pCloses t 7 σ5 fun σ6 => pR (gn 18 [[((pc σ).2.1 : Int)]] [gn 63 [] (gs ds), l]) (psF σ6 (pF σ))) = some r := by
      unfold gRowE cons1
      simp only [pB_ass, pB_pR]
      exact he
    refine zW_subR h90 (by omega) Z3 (by omega) rfl he her (fun l σ4 S4 W4 v y4 Z4 hl q4 he => zW_let ?_)
    have q4 := Qy_to (Qy_t q3 (Qy_x q4)) (k' := 1) (m' := 1) (by omega) (by omega)
    have hpd4 := q4.1
    refine zW_closesZ 7 (by decide) (by omega) (by omega) Z4 (by omega) he her (fun _ σ6 S6 W6 Z6 p6 he => zW_p ?_)
    have q6 := Qy_to (Qy_t q4 (Qy_x (Qx_o p6))) (k' := 0) (m' := 1) (by omega) (by omega)
    have Z7 := ZZ_47 Z6
    exact zW_nodeZ (M0 := I) [(gs ds, a, y), (gs l, v, y4)] 18 [[((pc σ).2.1 : Int)]] [gn 63 [] (gs ds), l] (by omega) Z7 (by omega) (by decide) rfl (zqc rfl zqn) ⟨⟨63, [], Or.inr rfl, rfl⟩, rfl, ⟨0, [], Or.inl rfl, congrArg some hl.2⟩, rfl, rfl⟩ (fun f S8 Z8 => zW_rI (hk _ _ S8 W6 f f (Option.some.inj he).symm (ZZ_mono Z8 (by omega)) (by show 18 ∈ kEx; decide) (Qx_F q6)))
  obtain ⟨d, rfl⟩ : ∃ e, d = e + 2 := ⟨d - 2, by omega⟩
  refine zW_tst (d := d + 1) (z_begDec Z1) (fun w => zW_f (by decide) ?_) (fun w => zW_t rfl ?_)
  · rw [if_pos w] at he
    obtain ⟨u, hu, h1, h2⟩ := pB_e he
    refine zW_I (P := fun v S' => zW (ZL (d + 2) 401 [.inl ((pc σ).2.1 : Int), .inl x47, .inl v] S') Q) (T := fun S' => Q none S') (zW_c (hD Γ S1 σ1 W1 _ _ (d + 1) _ u Z1 w (by omega) (by omega) hu (fun e p S' w T => her e p S' (h1 _ w) T) (fun τ σ2 S2 W2 a y w Z2 _ q2 => fin τ σ2 S2 W2 a y (ZZ_mono Z2 (by omega)) (Qy_to (Qy_t (Qy_x q1) q2) (by omega) (by omega)) (h2 _ _ w)))) (fun _ _ q => q) (fun _ q => q)
  · rw [if_neg w] at he
    exact fin (gl []) σ1 S1 W1 (-1) (-1) (by rw [gs_gl]; exact ZZ_e Z1) (Qy_x q1) he
end ZAt2
