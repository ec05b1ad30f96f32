set_option maxRecDepth 100000
/-! THE REFERENCE'S PARSER: functions, infix names, local -/
def ZL405 (t : List Int) (fs : Ps → PR) : Prop :=
  ∀ (Γ : Zg) (S : ZS) (σ : Ps) (W : List (List Int)) (cs : List Gt) (x y w0 : Int) (I : List Zi) (A : List Int × List (Int × Int × Int)) (K : List Zk) (g : Int) (d : Nat) (Q : Option (Option ZV) → ZS → Prop) (r : (Int × Nat) ⊕ (Gt × Ps)), ZZ t Γ S σ W ((cs, x, y) :: I, A, K) g → cs ≠ [] → S.2.2.1 11 (x - S.1 41) = w0 → g ≤ 150 → dep t σ + 10 ≤ d → (if pIs σ 39 then pT (pPass t σ) fs else pR (gl []) σ) = some r →
    (∀ e p S', r = .inl (e, p) → ThZ t Γ S' e p → Q none S') →
    (∀ τ σ1 S1 W1 y', r = .inr (τ, σ1) → τ = gl (gs τ) → ZZ t Γ S1 σ1 W1 ((cs ++ gs τ, x, y') :: I, A, K) g → S1.2.2.1 11 (x - S1.1 41) = w0 → Qx t 0 0 σ σ1 → Q (some (some (.inl x))) S1) → zW (ZL d 405 [.inl x, .inl y] S) Q
abbrev okF : Ps → Gt → ZS → Int → Prop := fun σ τ S a => (∃ c cs, gs τ = c :: cs ∧ gk c = 80) ∧ τ = gl (gs τ) ∧ S.2.2.1 11 (a - S.1 41) = ((pc σ).2.1 : Int)
section ZFun
variable {t : List Int} {Γ : Zg} {S S' S1 : ZS} {σ σ1 : Ps} {W W' W1 : List (List Int)} {M : Zm} {g g' G : Int} {d n tag m : Nat} {Q : Option (Option ZV) → ZS → Prop} {r : (Int × Nat) ⊕ (Gt × Ps)} {I J : List Zi} {A A' : List Int × List (Int × Int × Int)} {K K' : List Zk} {cs cs2 ps : List Gt} {x y z p x2 c y2 m0 : Int} {q : Nat} {b : List Int} {τ : Gt} {R R' R0 : PX} {o o' : ZO} {lo hi : Int} {F : Fx}
theorem gClauses_c {X : Ps → PR} {σ : Ps} {c : Gt} : (if pIs σ 39 then pT (pPass t σ) fun σ2 => cons1 c (X σ2) else pR (gl [c]) σ) = cons1 c (if pIs σ 39 then pT (pPass t σ) X else pR (gl []) σ) := by
  unfold cons1
  split
  · rw [pB_pT]
  · simp only [pB_pR, gs_gl]
theorem zr_clsL (h45 : ZCf t (R 45 [] []) 98 noA 10 one okC) (hL : ZL405 t (R 44 [] [])) : ZL405 t (gClauses t R) := by
  intro Γ S σ W cs x y w0 I A K g d Q r Z hc hw0 hg hd he her hk
  have d40 := dep_40z Z
  have hx0 : Γ.1.1 40 ≤ x ∧ x < S.1 40 := by
    cases cs with
    | nil => exact absurd rfl hc
    | cons c cs => exact ZZ_in Z 0 rfl (List.cons_ne_nil _ _)
  refine zl_clauses_p7 ?_
  unfold zb_clauses_p7
  have herB : ∀ e p S', r = .inl (e, p) → ThZ t (S, W) S' e p → Q none S' := by
    intro e p S' w T
    obtain ⟨S1, W1, σ1, g1, t1, t2⟩ := T
    exact her e p S' w ⟨S1, W1, σ1, g1, Zmo_trans Z.2.2.2.2.2.2.2.2 t1, t2⟩
  refine zW_hasZ 39 (by decide) (by omega) (ZZ_base Z) (by omega) he herB (fun _ he => zW_t rfl (zW_rI ?_)) (fun _ σ1 S1 W1 Z1 p1 he => zW_f (by decide) ?_)
  · exact hk _ σ S W y (Option.some.inj he).symm (by rw [gs_gl]) (by rw [gs_gl, List.append_nil]; exact Z) hw0 Qx_0
  · have q1 := Qx_p p1
    have dl1 := dep_le q1
    have Zr := ZZ_reb Z Z1
    have wr : S1.2.2.1 11 (x - S1.1 41) = w0 := (zwh_mo Z1.2.2.2.2.2.2.2.2 hx0.2).trans hw0
    have hx1 : x < S1.1 40 := Int.lt_of_lt_of_le hx0.2 Z1.2.2.2.2.2.2.2.2.2.2.1
    unfold gClauses at he
    have he : pB (R 45 [] [] σ1) (fun c σ3 => cons1 c (if pIs σ3 39 then pT (pPass t σ3) (R 44 [] []) else pR (gl []) σ3)) = some r := by
      simp only [gClauses_c] at he
      exact he
    have herB1 : ∀ e p S', r = .inl (e, p) → ThZ t (S1, W1) S' e p → Q none S' := by
      intro e p S' w T
      obtain ⟨S2, W2, σ2, g2, t1, t2⟩ := T
      exact her e p S' w ⟨S2, W2, σ2, g2, Zmo_trans Zr.2.2.2.2.2.2.2.2 t1, t2⟩
    refine zW_subZ h45 (by omega) (ZZ_base Zr) (by omega) rfl he herB1 (fun c σ3 S3 W3 a Z3 _ q3 he => ?_)
    have q3 := Qx_to (Qx_t q1 q3) (k' := 0) (m' := 1) (by omega) (by omega)
    have dl3 := dep_le q3
    have Zs := ZZ_reb Zr Z3
    have ws : S3.2.2.1 11 (x - S3.1 41) = w0 := (zwh_mo Z3.2.2.2.2.2.2.2.2 hx1).trans wr
    obtain ⟨q, hq, w1, w2⟩ := cons1_c he
    refine zW_appX Zs hc (by omega) (fun S4 e11 e4 hb Z4 => zW_a hb ?_)
    rw [e4]
    refine zW_let ?_
    exact hL Γ S4 σ3 W3 (cs ++ [c]) x a w0 I A K _ d Q q Z4 (List.append_ne_nil_of_right_ne_nil _ (List.cons_ne_nil _ _)) (by rw [e11.1, e11.2]; exact ws) (by omega) (by omega) hq (fun e p S' w T => her e p S' (w1 _ w) T) (fun l σ7 S7 W7 y' w hl Z7 o7 q7 => hk _ σ7 S7 W7 y' (w2 _ _ w) (by rw [gs_gl]) (by rw [gs_gl]; rw [List.append_assoc] at Z7; exact ZZ_mono Z7 (by omega)) o7 (Qx_to (Qx_t q3 q7) (by omega) (by omega)))
theorem zr_clauses (h45 : ZCf t (R 45 [] []) 98 noA 10 one okC) (hL : ZL405 t (R 44 [] [])) : ZCf t (gClauses t R) 97 noA 11 imRz okF := by
  intro Γ S σ W M g d Q r Z hg hd he her hk
  obtain ⟨I, A, K⟩ := M
  have d40 := dep_40z Z
  unfold gClauses at he
  have he : pB (R 45 [] [] σ) (fun c σ3 => cons1 c (if pIs σ3 39 then pT (pPass t σ3) (R 44 [] []) else pR (gl []) σ3)) = some r := by
    simp only [gClauses_c] at he
    exact he
  refine zl_clauses ?_
  unfold zb_clauses
  refine zW_subZ h45 (by omega) Z (by omega) rfl he her (fun c σ1 S1 W1 a Z1 o1 q1 he => zW_let (zW_let ?_))
  have dl1 := dep_le q1
  obtain ⟨q, hq, w1, w2⟩ := cons1_c he
  exact hL Γ S1 σ1 W1 [c] a a _ I A K _ d Q q Z1 (List.cons_ne_nil _ _) o1.2 (by omega) (by omega) hq (fun e p S' w T => her e p S' (w1 _ w) T) (fun l σ7 S7 W7 y' w hl Z7 o7 q7 => hk _ σ7 S7 W7 a y' (w2 _ _ w) (by show ZZ t Γ S7 σ7 W7 ((gs (gl (c :: gs l)), a, y') :: I, A, K) _; rw [gs_gl]; exact Z7) ⟨⟨c, gs l, by rw [gs_gl], o1.1⟩, by rw [gs_gl], o7⟩ (Qx_to (Qx_t q1 q7) (by omega) (by omega)))
/-- a clause's name -/
theorem z80 {c0 : Gt} {cs : List Gt} (i : Nat) (Z : ZZ t Γ S σ W M g) (hi : M.1[i]? = some (c0 :: cs, x, y)) (hk : gk c0 = 80) (hg : g ≤ 185) : zname W (S.2.2.1 12 x) ((gp c0).getD 1 []) ∧ 0 ≤ x ∧ x < 84000 := by
  have hin : Γ.1.1 40 ≤ x ∧ x < S.1 40 := ZZ_in Z i hi (List.cons_ne_nil _ _)
  have h40 := (ZZ_40 Z hg).1
  have h41 : 0 ≤ S.1 41 ∧ S.1 41 ≤ Γ.1.1 40 := ⟨Z.2.1.2.2.2.2.2.1, Z.2.2.2.2.1.1⟩
  obtain ⟨m, hi', w1, w2, w3⟩ := zits_at M.1 i Z.2.2.2.2.2.1 hi
  have z4 : zrt (zo S W) c0 m (x + 1) x := w3.1.2.2.1.2.1
  cases c0 with
  | leaf p => exact z4.elim
  | branch k l r =>
    have hk : k = 80 := hk
    subst hk
    rw [zrt_br] at z4
    have h : zrtA (zo S W) 80 (gpl l) (zIm (zo S W) (gsp r)) m (x + 1) x := z4
    unfold zrtA zrtB at h
    rw [if_neg (by decide), if_neg (by decide), if_neg (by decide), if_neg (by decide), if_pos rfl] at h
    exact ⟨h.2.2.2.1, by omega, by omega⟩
theorem zr_funsL (h44 : ZCf t (R 44 [] []) 97 noA 11 imRz okF) (hL : ZLn t (R 43 [] []) 404 12 Lxy FgL 0 imRz okRow (-1)) : ZLn t (gFuns t R) 404 12 Lxy FgL 0 imRz okRow (-1) := by
  intro Γ S σ W cs x y I A K g d Q r as Z ga hg hp hd he her hk
  cases ga
  have d40 := dep_40z Z
  unfold gFuns at he
  simp only [pB_pT, pB_ite, pB_pR, pB_pWr, pB_in, pB_ass, gs_gl, cons1] at he
  refine zl_functions_p6 ?_
  unfold zb_functions_p6
  refine zW_f (by decide) (zW_subR h44 (by omega) Z (by omega) rfl he her (fun l σ1 S1 W1 a y1 Z1 o1 q1 he => zW_let ?_))
  have dl1 := dep_le q1
  obtain ⟨⟨c0, cs0, hcs, hk80⟩, hl, hwh⟩ := o1
  have Z1 : ZZ t Γ S1 σ1 W1 ((gs l, a, y1) :: (cs, x, y) :: I, A, K) (g - 2) := Z1
  have hin : Γ.1.1 40 ≤ a ∧ a < S1.1 40 := ZZ_in Z1 0 rfl (by rw [hcs]; exact List.cons_ne_nil _ _)
  have h40 := ZZ_40 Z1 (by omega)
  have h41 : 0 ≤ S1.1 41 ∧ S1.1 41 ≤ Γ.1.1 40 := ⟨Z1.2.1.2.2.2.2.2.1, Z1.2.2.2.2.1.1⟩
  obtain ⟨hn, hr⟩ := z80 (c0 := c0) (cs := cs0) 0 Z1 (by rw [← hcs]; rfl) hk80 (by omega)
  refine zW_a (by omega) (zW_a hr ?_)
  rw [hwh]
  have hnm : hnm (gp ((gs l).getD 0 oN)) = (gp c0).getD 1 [] := by rw [hcs]; rfl
  refine zW_nodeZ (M0 := (cs, x, y) :: I) [(gs l, a, y1)] 79 [[((pc σ).2.1 : Int)]] (gs l) (by omega) Z1 (by omega) (by decide) rfl (zqc rfl (zqc ?_ zqn)) ⟨rfl, rfl, rfl⟩ (fun f S4 Z4 => zW_let ?_)
  · show zname W1 (S1.2.2.1 12 a) (_root_.Jvm.Pilot.CMlHouseLaw_law_r1995_beea5f.hnm (gp ((gs l).getD 0 oN)))
    rw [hnm]; exact hn
  refine zW_rowZ (KK := fun x' S' => ZL d 609 [.inl x', .inl f] S') Z4 (by omega) (fun x' S5 Z5 => zl_functions_p66 ?_)
  unfold zb_functions_p66
  refine zW_let (zW_hasZ 0 (by decide) (by omega) Z5 (by omega) he her (fun _ he => zW_let (zl_functions_p6 ?_)) (fun _ σ6 S6 W6 Z6 p6 he => zW_let ?_))
  · unfold zb_functions_p6
    exact zW_t rfl (zW_rI (hk _ σ1 S5 W1 x' f (Option.some.inj he).symm (by show ZZ t Γ S5 σ1 W1 ((gs (gl (cs ++ [gn 79 [[((pc σ).2.1 : Int)]] (gs l)])), x', f) :: I, A, K) _; rw [gs_gl]; exact ZZ_mono Z5 (by omega)) ⟨by rw [gs_gl]; exact List.append_ne_nil_of_right_ne_nil _ (List.cons_ne_nil _ _), by rw [gs_gl]⟩ (Qx_to q1 rfl (by omega))))
  · have q6 := Qx_to (Qx_t q1 (Qx_p p6)) (k' := 0) (m' := 2) (by omega) (by omega)
    have dl6 := dep_le q6
    have he : pB (R 43 [] [] σ6) (fun l' σ7 => FgL ((cs ++ [gn 79 [[((pc σ).2.1 : Int)]] (gs l)]) ++ gs l') σ7) = some r := by
      simp only [List.append_assoc, List.singleton_append]
      exact he
    exact hL Γ S6 σ6 W6 _ x' f I A K _ d Q r _ Z6 rfl (by omega) (by have := q6.1; omega) (by omega) he her (fun τ' σ7 S7 W7 a' y' w Z7 o7 q7 => hk τ' σ7 S7 W7 a' y' w (ZZ_mono Z7 (by omega)) o7 (Qx_to (Qx_t q6 q7) (by omega) (by omega)))
end ZFun
