set_option maxRecDepth 100000
/-! THE HOUSE'S PARSER: declarations (printed by gen/dsl/p74xs.py) -/
def dsF (s : List Gt) : List Gt := (s.filter fun x => decide (gk x ≠ 83)).map ho
theorem dsF_app {s s' : List Gt} : dsF (s ++ s') = dsF s ++ dsF s' := by unfold dsF; rw [List.filter_append, List.map_append]
theorem dsF_1 {x : Gt} (h : gk x ≠ 83) : dsF [x] = [ho x] := by unfold dsF; rw [List.filter_cons, if_pos (decide_eq_true h)]; rfl
theorem dsF_0 {x : Gt} (h : gk x = 83) : dsF [x] = [] := by unfold dsF; rw [List.filter_cons, if_neg (by simpa using h)]; rfl
theorem dsF_le {s : List Gt} : (dsF s).length ≤ s.length := by unfold dsF; rw [List.length_map]; exact List.length_filter_le _ _
theorem ho_63 {s : List Gt} : ho (gn 63 [] s) = oL (dsF s) := by
  rw [ho_gn]
  show oL (((s.map fun x => (x, ho x)).filter fun q => decide (gk q.1 ≠ 83)).map fun q => q.2) = _
  rw [List.filter_map, List.map_map]; rfl
theorem okD_G {τ : Gt} (h : 70 ≤ gk τ ∧ gk τ ≤ 77) : okG (ho τ) := by
  cases τ with
  | leaf p => exact absurd h.1 (show ¬ 70 ≤ (0 : Nat) by decide)
  | branch k l r =>
    have h : 70 ≤ k ∧ k ≤ 77 := h
    have hk : k = 70 ∨ k = 71 ∨ k = 72 ∨ k = 73 ∨ k = 74 ∨ k = 75 ∨ k = 76 ∨ k = 77 := by omega
    rcases hk with rfl | rfl | rfl | rfl | rfl | rfl | rfl | rfl
    · exact Or.inl (show (24 : Nat) < 72 by decide)
    · exact Or.inl (show (24 : Nat) < 72 by decide)
    · exact Or.inl (show (58 : Nat) < 72 by decide)
    · exact Or.inl (show (61 : Nat) < 72 by decide)
    · exact Or.inl (show (62 : Nat) < 72 by decide)
    · exact Or.inl (show (65 : Nat) < 72 by decide)
    · exact Or.inl (show (65 : Nat) < 72 by decide)
    · exact Or.inl (show (66 : Nat) < 72 by decide)
theorem ho_77 {a b : List Gt} : ho (gn 77 [] [gn 63 [] a, gn 63 [] b]) = oO 66 [] [oF 19800 (oL (dsF a)), oF 19801 (oL (dsF b))] := by
  rw [ho_gn, ← ho_63, ← ho_63]; rfl
/-- one declaration comes to those that stand already -/
def YDc (C : YC) (B : Nat → Prop) (X : Nat → Nat) (t : List Int) (fs : Ps → PR) : Prop :=
  ∀ (Γ : Gm) (H : YS) (σ : Ps) (η : Et) (M : List (Gt × Option Nat)) (g h : Int) (d : Nat) (Q : Option (Option ZV) → YS → Prop) (r : (Int × Nat) ⊕ (Gt × Ps)) (cap l1 : Nat) (τs : List Gt), SS C B X t Γ H σ η ((oC cap (dsF τs), some l1) :: M) g h → Γ.2.2.2.2 = 0 → (eV η).length ≤ pd σ → g ≤ 2975 → h ≤ 2890 → cap ≤ 10 + 2 * τs.length → τs.length + pmu t σ ≤ 999 → dep t σ + 28 ≤ d → tDec (pc σ) → fs σ = some r →
    (∀ e p H', r = .inl (e, p) → Th C B X t Γ H' e p → Q none H') →
    (∀ τ σ1 H1 η1 cap1, r = .inr (τ, σ1) → SS C B X t Γ H1 σ1 η1 ((oC cap1 (dsF (τs ++ [τ])), some l1) :: M) (g - 9) (h - 60 + 4 * cap1 - 4 * cap) → cap ≤ cap1 → cap1 ≤ 10 + 2 * (τs.length + 1) → Qy t 0 1 σ σ1 → Er η η1 [τ] → Q (some none) H1) → zW (YL C d 104 [zr (X 8), zr l1] H) Q
def gLoc (t : List Int) (R : PX) (σ : Ps) : PR := pOpens t σ fun σ1 => pB (gDecs0 R σ1) fun a σ2 => pNeed t 13 σ2 fun σ3 => pB (gDecs0 R σ3) fun b σ4 => pCloses t 7 σ4 fun σ5 => pR (gn 77 [] [gn 63 [] (gs a), gn 63 [] (gs b)]) (psF σ5 (pF σ))
section YDecs
variable {C : YC} {B P O : Nat → Prop} {X : Nat → Nat} {t : List Int} {Γ : Gm} {H H' : YS} {σ σ1 : Ps} {η η1 : Et} {M : List (Gt × Option Nat)} {g h g' h' : Int} {a e c s d dp cap : Nat} {F : List (List Int × Int × Int)} {Q : Option (Option ZV) → YS → Prop} {r : (Int × Nat) ⊕ (Gt × Ps)} {f : Ps → PR} {θ τ : Gt} {w : Option Nat} {l : List Gt} {tk : Tok} {R : PX}

theorem SS_eq0 {M : List (Gt × Option Nat)} {w : Option Nat} {cap : Nat} {l l' : List Gt} (e : l = l') (S : SS C B X t Γ H σ η ((oC cap l, w) :: M) g h) : SS C B X t Γ H σ η ((oC cap l', w) :: M) g h := e ▸ S
theorem y_dec {R : PX} (hval : YDf C B X t (nE 26 (gVal t R)) 105 14 ho okDc) (hfun : YDf C B X t (nE 10 (gFun t R)) 158 16 ho okDc) (htyp : YDf C B X t (nE 25 (gTyD t R)) 160 22 ho okDc) (hdat : YDf C B X t (nE 4 (gDat t R)) 163 24 ho okDc) (hexc : YDf C B X t (nE 8 (gExn t R)) 164 20 ho okDc) (hloc : YDf C B X t (nE 17 (gLoc t R)) 165 3 ho okDc) (hfix : YFx C B X t (fun σ => if (pc σ).1 ≠ 6 then gFxD t R σ else none)) : YDc C B X t (gDec t R) := by
  intro Γ H σ η M g h d Q r cap l1 τs S hu hvl hg hh hc hl hd hdc he her hk
  have d40 := dep_40 S
  have vl := SS_vl S
  have hdl := dsF_le (s := τs)
  unfold gDec at he
  refine yl_Parser_dec ?_
  unfold yb_Parser_dec
  refine zW_tis 26 102 (by decide) (by omega) S (fun u1 => ?_) (fun u1 => ?_)
  · rw [if_pos u1] at he
    have he := nE_he (f := gVal t R) u1 he
    refine zW_subd hval (by omega) S hu (by omega) (by omega) (by omega) he her (fun t2 σ2 H2 η2 ro2 S2 o2 q2 e2 he => ?_)
    have m2 := q2.2.2.1
    have d2 := dep_le q2
    have vn2 := Er_len e2
    have vd2 := q2.1
    have o9 : 70 ≤ gk t2 ∧ gk t2 ≤ 77 := o2
    have S4 := SS_pk 2 [1, 0] rfl rfl S2
    refine zW_add (by omega) (by omega) (okD_G o2) S4 (fun H3 c3 S3 f3 f3' => ?_)
    refine zW_rV (hk t2 σ2 H3 η2 _ (Option.some.inj he).symm (SS_mono (SS_eq0 ?_ S3) (by omega) (by omega)) ?_ ?_ (Qy_x (Qx_to q2 (by omega) (by omega))) e2)
    · rw [dsF_app, dsF_1 (by omega)]
    · omega
    · omega
  · rw [if_neg u1] at he
    refine zW_tis 10 103 (by decide) (by omega) S (fun u5 => ?_) (fun u5 => ?_)
    · rw [if_pos u5] at he
      have he := nE_he (f := gFun t R) u5 he
      refine zW_subd hfun (by omega) S hu (by omega) (by omega) (by omega) he her (fun t6 σ6 H6 η6 ro6 S6 o6 q6 e6 he => ?_)
      have m6 := q6.2.2.1
      have d6 := dep_le q6
      have vn6 := Er_len e6
      have vd6 := q6.1
      have o9 : 70 ≤ gk t6 ∧ gk t6 ≤ 77 := o6
      have S8 := SS_pk 2 [1, 0] rfl rfl S6
      refine zW_add (by omega) (by omega) (okD_G o6) S8 (fun H7 c7 S7 f7 f7' => ?_)
      refine zW_rV (hk t6 σ6 H7 η6 _ (Option.some.inj he).symm (SS_mono (SS_eq0 ?_ S7) (by omega) (by omega)) ?_ ?_ (Qy_x (Qx_to q6 (by omega) (by omega))) e6)
      · rw [dsF_app, dsF_1 (by omega)]
      · omega
      · omega
    · rw [if_neg u5] at he
      refine zW_tis 25 104 (by decide) (by omega) S (fun u9 => ?_) (fun u9 => ?_)
      · rw [if_pos u9] at he
        have he := nE_he (f := gTyD t R) u9 he
        refine zW_subd htyp (by omega) S hu (by omega) (by omega) (by omega) he her (fun t10 σ10 H10 η10 ro10 S10 o10 q10 e10 he => ?_)
        have m10 := q10.2.2.1
        have d10 := dep_le q10
        have vn10 := Er_len e10
        have vd10 := q10.1
        have o9 : 70 ≤ gk t10 ∧ gk t10 ≤ 77 := o10
        have S12 := SS_pk 2 [1, 0] rfl rfl S10
        refine zW_add (by omega) (by omega) (okD_G o10) S12 (fun H11 c11 S11 f11 f11' => ?_)
        refine zW_rV (hk t10 σ10 H11 η10 _ (Option.some.inj he).symm (SS_mono (SS_eq0 ?_ S11) (by omega) (by omega)) ?_ ?_ (Qy_x (Qx_to q10 (by omega) (by omega))) e10)
        · rw [dsF_app, dsF_1 (by omega)]
        · omega
        · omega
      · rw [if_neg u9] at he
        refine zW_tis 4 105 (by decide) (by omega) S (fun u13 => ?_) (fun u13 => ?_)
        · rw [if_pos u13] at he
          have he := nE_he (f := gDat t R) u13 he
          refine zW_subd hdat (by omega) S hu (by omega) (by omega) (by omega) he her (fun t14 σ14 H14 η14 ro14 S14 o14 q14 e14 he => ?_)
          have m14 := q14.2.2.1
          have d14 := dep_le q14
          have vn14 := Er_len e14
          have vd14 := q14.1
          have o9 : 70 ≤ gk t14 ∧ gk t14 ≤ 77 := o14
          have S16 := SS_pk 2 [1, 0] rfl rfl S14
          refine zW_add (by omega) (by omega) (okD_G o14) S16 (fun H15 c15 S15 f15 f15' => ?_)
          refine zW_rV (hk t14 σ14 H15 η14 _ (Option.some.inj he).symm (SS_mono (SS_eq0 ?_ S15) (by omega) (by omega)) ?_ ?_ (Qy_x (Qx_to q14 (by omega) (by omega))) e14)
          · rw [dsF_app, dsF_1 (by omega)]
          · omega
          · omega
        · rw [if_neg u13] at he
          refine zW_tis 8 106 (by decide) (by omega) S (fun u17 => ?_) (fun u17 => ?_)
          · rw [if_pos u17] at he
            have he := nE_he (f := gExn t R) u17 he
            refine zW_subd hexc (by omega) S hu (by omega) (by omega) (by omega) he her (fun t18 σ18 H18 η18 ro18 S18 o18 q18 e18 he => ?_)
            have m18 := q18.2.2.1
            have d18 := dep_le q18
            have vn18 := Er_len e18
            have vd18 := q18.1
            have o9 : 70 ≤ gk t18 ∧ gk t18 ≤ 77 := o18
            have S20 := SS_pk 2 [1, 0] rfl rfl S18
            refine zW_add (by omega) (by omega) (okD_G o18) S20 (fun H19 c19 S19 f19 f19' => ?_)
            refine zW_rV (hk t18 σ18 H19 η18 _ (Option.some.inj he).symm (SS_mono (SS_eq0 ?_ S19) (by omega) (by omega)) ?_ ?_ (Qy_x (Qx_to q18 (by omega) (by omega))) e18)
            · rw [dsF_app, dsF_1 (by omega)]
            · omega
            · omega
          · rw [if_neg u17] at he
            refine zW_tis 17 107 (by decide) (by omega) S (fun u21 => ?_) (fun u21 => ?_)
            · rw [if_pos u21] at he
              have he := nE_he (f := gLoc t R) u21 he
              refine zW_subd hloc (by omega) S hu (by omega) (by omega) (by omega) he her (fun t22 σ22 H22 η22 ro22 S22 o22 q22 e22 he => ?_)
              have m22 := q22.2.2.1
              have d22 := dep_le q22
              have vn22 := Er_len e22
              have vd22 := q22.1
              have o9 : 70 ≤ gk t22 ∧ gk t22 ≤ 77 := o22
              have S24 := SS_pk 2 [1, 0] rfl rfl S22
              refine zW_add (by omega) (by omega) (okD_G o22) S24 (fun H23 c23 S23 f23 f23' => ?_)
              refine zW_rV (hk t22 σ22 H23 η22 _ (Option.some.inj he).symm (SS_mono (SS_eq0 ?_ S23) (by omega) (by omega)) ?_ ?_ (Qy_x (Qx_to q22 (by omega) (by omega))) e22)
              · rw [dsF_app, dsF_1 (by omega)]
              · omega
              · omega
            · rw [if_neg u21] at he
              have h6 : (pc σ).1 ≠ 6 := by have := hdc.1; omega
              have he : (fun σ => if (pc σ).1 ≠ 6 then gFxD t R σ else none) σ = some r := by show (if (pc σ).1 ≠ 6 then gFxD t R σ else none) = some r; rw [if_pos h6]; exact he
              obtain ⟨d, rfl⟩ : ∃ e, d = e + 1 := ⟨d - 1, by omega⟩
              rw [ycv_s (SS_8 S) ⟨by decide, rfl⟩]
              refine zW_V (P := fun H1 => Q (some none) H1) (T := fun H1 => Q none H1) (zW_c (hfix Γ H σ η _ _ _ d _ r S (by omega) (by omega) (by omega) he (fun e p H' w T => her e p H' w T) (fun τ σ1 H1 η1 e1 S1 w1 q1 e2 => ?_))) (fun H1 w => zW_rV w) (fun _ w => w)
              subst w1
              exact hk _ σ1 H1 η1 _ e1 (SS_mono (SS_eq0 (by rw [dsF_app, dsF_0 rfl, List.append_nil]) S1) (by omega) (by omega)) (Nat.le_refl _) (by omega) q1 (Er_n (by decide) (Er_1 e2))
theorem zW_decC {fs : Ps → PR} {k : YS → ZR YS} {fK : Gt → Ps → PR} {M : List (Gt × Option Nat)} {l1 : Nat} {τs : List Gt} (ih : YDc C B X t fs) (hd : dep t σ + 29 ≤ d) (S : SS C B X t Γ H σ η ((oC cap (dsF τs), some l1) :: M) g h) (hu : Γ.2.2.2.2 = 0) (hvl : (eV η).length ≤ pd σ) (hg : g ≤ 2975) (hh : h ≤ 2890) (hc : cap ≤ 10 + 2 * τs.length) (hl : τs.length + pmu t σ ≤ 999) (hw : tDec (pc σ)) (he : pB (fs σ) fK = some r) (her : ∀ e p H', r = .inl (e, p) → Th C B X t Γ H' e p → Q none H')
    (hk : ∀ τ σ1 H1 η1 cap1, SS C B X t Γ H1 σ1 η1 ((oC cap1 (dsF (τs ++ [τ])), some l1) :: M) (g - 9) (h - 60 + 4 * cap1 - 4 * cap) → cap ≤ cap1 → cap1 ≤ 10 + 2 * (τs.length + 1) → Qy t 0 1 σ σ1 → Er η η1 [τ] → fK τ σ1 = some r → zW (k H1) Q) : zW (zV (ycv (YL C) d [(6, 104)] (some (X 8)) [.inr (.inr (some l1))] H) k) Q := by
  obtain ⟨d, rfl⟩ : ∃ e, d = e + 1 := ⟨d - 1, by omega⟩
  rw [ycv_s (SS_8 S) ⟨by decide, rfl⟩]
  cases hR : fs σ with
  | none => rw [hR] at he; cases he
  | some q =>
    rw [hR] at he
    refine zW_V (P := fun H1 => ∃ τ σ1 η1 cap1, q = .inr (τ, σ1) ∧ SS C B X t Γ H1 σ1 η1 ((oC cap1 (dsF (τs ++ [τ])), some l1) :: M) (g - 9) (h - 60 + 4 * cap1 - 4 * cap) ∧ cap ≤ cap1 ∧ cap1 ≤ 10 + 2 * (τs.length + 1) ∧ Qy t 0 1 σ σ1 ∧ Er η η1 [τ]) (T := fun H1 => ∃ e p, q = .inl (e, p) ∧ Th C B X t Γ H1 e p) (zW_c (ih Γ H σ η _ g h d _ q cap l1 τs S hu hvl hg hh hc hl (by omega) hw hR (fun e p H1 w T => ⟨e, p, w, T⟩) (fun τ σ1 H1 η1 cap1 w S1 c1 c2 q1 e1 => ⟨τ, σ1, η1, cap1, w, S1, c1, c2, q1, e1⟩))) ?_ ?_
    · rintro H1 ⟨τ, σ1, η1, cap1, rfl, S1, c1, c2, q1, e1⟩
      exact hk τ σ1 H1 η1 cap1 S1 c1 c2 q1 e1 he
    · rintro H1 ⟨e, p, rfl, T⟩
      exact her e p H1 (Option.some.inj he).symm T
theorem y_decsLoop : ∀ (n : Nat), (∀ n', n' < n → YDc C B X t (sP t n' 41 [] [])) → ∀ (Γ : Gm) (H : YS) (σ : Ps) (η : Et) (M : List (Gt × Option Nat)) (g h : Int) (d : Nat) (Q : Option (Option ZV) → YS → Prop) (r : (Int × Nat) ⊕ (Gt × Ps)) (cap l1 : Nat) (x1 : Int) (τs : List Gt) (fT : List Gt → Ps → PR), SS C B X t Γ H σ η ((oC cap (dsF τs), some l1) :: M) g h → Γ.2.2.2.2 = 0 → (eV η).length ≤ pd σ → g ≤ 2975 → h + 8 * τs.length ≤ 2850 + 4 * cap → cap ≤ 10 + 2 * τs.length → τs.length + pmu t σ ≤ 999 → dep t σ + 29 ≤ d → tDec (pc σ) → pB (sP t n 40 [x1] [] σ) (fun l σ2 => fT (τs ++ gs l) σ2) = some r →
      (∀ e p H', r = .inl (e, p) → Th C B X t Γ H' e p → Q none H') →
      (∀ l σ2 H2 η2 cap2, SS C B X t Γ H2 σ2 η2 ((oC cap2 (dsF (τs ++ l)), some l1) :: M) (g - 9 * l.length) (h + 40 + 8 * τs.length - 4 * cap - 52 * l.length) → l ≠ [] → Qy t 0 1 σ σ2 → Er η η2 l → fT (τs ++ l) σ2 = some r → Q (some (some (.inr (.inr (some l1))))) H2) → zW (YL C d 563 [zr (X 8), .inl x1, zr l1, .inl 1] H) Q := by
  intro n
  induction n with
  | zero =>
    intro _ Γ H σ η M g h d Q r cap l1 x1 τs fT S hu hvl hg hh hc hl hd hdc he
    cases he
  | succ n ih =>
    intro h41 Γ H σ η M g h d Q r cap l1 x1 τs fT S hu hvl hg hh hc hl hd hdc he her hT
    have d40 := dep_40 S
    have vl := SS_vl S
    have hdl := dsF_le (s := τs)
    have he : pB (gDecs t x1 (sP t n) σ) (fun l σ2 => fT (τs ++ gs l) σ2) = some r := he
    unfold gDecs at he
    simp only [pB_pT, pB_ite, pB_pR, pB_pWr, pB_in, pB_ass, pB_pNeed, pB_pOpens, pB_pCloses, pB_pName, pB_pAny, pB_pOpn, pB_pLab, gs_gl, cons1] at he
    refine yl_Parser_decs_p16 ?_
    unfold yb_Parser_decs_p16
    refine zW_f (by decide) ?_
    refine zW_decC (h41 n (by omega)) (by omega) S hu hvl hg (by omega) hc hl hdc he her (fun t1 σ1 H1 η1 c1 S1 cc1 ck1 q1 e1 he => ?_)
    have m1 := q1.2.2.1
    have d1 := dep_y q1
    have vn1 := Er_len e1
    have vd1 := q1.1
    refine zW_tis 35 140 (by decide) (by omega) S1 (fun u2 => ?_) (fun u2 => ?_)
    · skip
      refine zW_if (fun y => ?_) (fun y => ?_)
      · rw [if_pos ⟨u2, Or.inl y⟩] at he
        refine yl_Parser_decs_p51 ?_
        unfold yb_Parser_decs_p51
        refine zW_let ?_
        refine zW_f (by decide) ?_
        refine zW_pass (by omega) S1 (by have := u2.1; omega) (by omega) (by omega) he her (fun σ3 H3 η3 S3 p3 w3 he => ?_)
        have q3 := Qx_p p3
        have m3 := q3.2.2.1
        have d3 := dep_le q3
        have vn3 := congrArg List.length w3.2
        have vd3 := q3.1
        refine yl_Parser_decs_p67 ?_
        unfold yb_Parser_decs_p67
        refine zW_isDcB (by omega) S3 (fun b4 hb4 => ?_)
        refine zW_let ?_
        refine zW_f (by decide) ?_
        refine zW_if (fun y2 => ?_) (fun y2 => ?_)
        · rw [if_neg ((hb4.resolve_left (fun w => by have := w.2; omega)).1)] at he
          exact zW_wr (by omega) S3 (by omega) (by omega) he her
        · rw [if_pos ((hb4.resolve_right (fun w => y2 w.2)).1)] at he
          rcases hb4 with ⟨z, zb⟩ | ⟨z, zb⟩
          · rw [zb]
            try simp only [if_pos z] at he
            have hln2 : (τs ++ [t1]).length = τs.length + 1 := by rw [List.length_append]; rfl
            refine ih (fun n' hn' => h41 n' (by omega)) Γ H3 σ3 η3 M _ _ d Q r _ l1 x1 (τs ++ [t1]) fT S3 hu (by omega) (by omega) (by rw [hln2]; omega) (by rw [hln2]; omega) (by rw [hln2]; omega) (by omega) z (by simp only [List.append_assoc]; exact he) her (fun l σ95 H95 η95 cap95 S95 _ q95 e95 he95 => ?_)
            have hcons : (τs ++ [t1]) ++ l = τs ++ t1 :: l := by rw [List.append_assoc]; rfl
            rw [hcons, hln2] at S95
            rw [hcons] at he95
            exact hT (t1 :: l) σ95 H95 η95 cap95 (SS_mono S95 (by rw [List.length_cons]; omega) (by rw [List.length_cons]; omega)) (fun q => by cases q) (Qy_to (Qy_t (Qy_t q1 (Qy_x q3)) q95) (by omega) (by omega)) (Er_t (Er_e e1 w3) e95) he95
          · exact absurd zb y2
      · skip
        refine zW_isDn (by omega) S1 (fun u5 => ?_) (fun u5 => ?_)
        · refine zW_f (by decide) ?_
          rw [if_pos ⟨u2, Or.inr u5⟩] at he
          refine yl_Parser_decs_p51 ?_
          unfold yb_Parser_decs_p51
          refine zW_let ?_
          refine zW_f (by decide) ?_
          refine zW_pass (by omega) S1 (by have := u2.1; omega) (by omega) (by omega) he her (fun σ6 H6 η6 S6 p6 w6 he => ?_)
          have q6 := Qx_p p6
          have m6 := q6.2.2.1
          have d6 := dep_le q6
          have vn6 := congrArg List.length w6.2
          have vd6 := q6.1
          refine yl_Parser_decs_p67 ?_
          unfold yb_Parser_decs_p67
          refine zW_isDcB (by omega) S6 (fun b7 hb7 => ?_)
          refine zW_let ?_
          refine zW_f (by decide) ?_
          refine zW_if (fun y2 => ?_) (fun y2 => ?_)
          · rw [if_neg ((hb7.resolve_left (fun w => by have := w.2; omega)).1)] at he
            exact zW_wr (by omega) S6 (by omega) (by omega) he her
          · rw [if_pos ((hb7.resolve_right (fun w => y2 w.2)).1)] at he
            rcases hb7 with ⟨z, zb⟩ | ⟨z, zb⟩
            · rw [zb]
              try simp only [if_pos z] at he
              have hln2 : (τs ++ [t1]).length = τs.length + 1 := by rw [List.length_append]; rfl
              refine ih (fun n' hn' => h41 n' (by omega)) Γ H6 σ6 η6 M _ _ d Q r _ l1 x1 (τs ++ [t1]) fT S6 hu (by omega) (by omega) (by rw [hln2]; omega) (by rw [hln2]; omega) (by rw [hln2]; omega) (by omega) z (by simp only [List.append_assoc]; exact he) her (fun l σ95 H95 η95 cap95 S95 _ q95 e95 he95 => ?_)
              have hcons : (τs ++ [t1]) ++ l = τs ++ t1 :: l := by rw [List.append_assoc]; rfl
              rw [hcons, hln2] at S95
              rw [hcons] at he95
              exact hT (t1 :: l) σ95 H95 η95 cap95 (SS_mono S95 (by rw [List.length_cons]; omega) (by rw [List.length_cons]; omega)) (fun q => by cases q) (Qy_to (Qy_t (Qy_t q1 (Qy_x q6)) q95) (by omega) (by omega)) (Er_t (Er_e e1 w6) e95) he95
            · exact absurd zb y2
        · refine zW_t rfl ?_
          rw [if_neg (fun z => z.2.elim y u5)] at he
          refine yl_Parser_decs_p55 ?_
          unfold yb_Parser_decs_p55
          refine zW_let ?_
          refine zW_t rfl ?_
          refine yl_Parser_decs_p67 ?_
          unfold yb_Parser_decs_p67
          refine zW_isDcB (by omega) S1 (fun b8 hb8 => ?_)
          refine zW_let ?_
          refine zW_t rfl ?_
          rcases hb8 with ⟨z, zb⟩ | ⟨z, zb⟩
          · rw [zb]
            try simp only [if_pos z] at he
            have hln2 : (τs ++ [t1]).length = τs.length + 1 := by rw [List.length_append]; rfl
            refine ih (fun n' hn' => h41 n' (by omega)) Γ H1 σ1 η1 M _ _ d Q r _ l1 x1 (τs ++ [t1]) fT S1 hu (by omega) (by omega) (by rw [hln2]; omega) (by rw [hln2]; omega) (by rw [hln2]; omega) (by omega) z (by simp only [List.append_assoc]; exact he) her (fun l σ95 H95 η95 cap95 S95 _ q95 e95 he95 => ?_)
            have hcons : (τs ++ [t1]) ++ l = τs ++ t1 :: l := by rw [List.append_assoc]; rfl
            rw [hcons, hln2] at S95
            rw [hcons] at he95
            exact hT (t1 :: l) σ95 H95 η95 cap95 (SS_mono S95 (by rw [List.length_cons]; omega) (by rw [List.length_cons]; omega)) (fun q => by cases q) (Qy_to (Qy_t q1 q95) (by omega) (by omega)) (Er_t e1 e95) he95
          · rw [zb]
            simp only [if_neg z] at he
            refine yl_Parser_decs_p16 ?_
            unfold yb_Parser_decs_p16
            refine zW_t rfl (zW_rQ ?_)
            exact hT [t1] σ1 H1 η1 _ (SS_mono S1 (by show _ ≤ g - 9 * ((1 : Nat) : Int); omega) (by show _ ≤ h + 40 + 8 * (τs.length : Int) - 4 * cap - 52 * ((1 : Nat) : Int); omega)) (fun q => by cases q) (Qy_to q1 (by omega) (by omega)) e1 he
    · rw [if_neg (fun z => u2 z.1)] at he
      refine yl_Parser_decs_p55 ?_
      unfold yb_Parser_decs_p55
      refine zW_let ?_
      refine zW_t rfl ?_
      refine yl_Parser_decs_p67 ?_
      unfold yb_Parser_decs_p67
      refine zW_isDcB (by omega) S1 (fun b9 hb9 => ?_)
      refine zW_let ?_
      refine zW_t rfl ?_
      rcases hb9 with ⟨z, zb⟩ | ⟨z, zb⟩
      · rw [zb]
        try simp only [if_pos z] at he
        have hln2 : (τs ++ [t1]).length = τs.length + 1 := by rw [List.length_append]; rfl
        refine ih (fun n' hn' => h41 n' (by omega)) Γ H1 σ1 η1 M _ _ d Q r _ l1 x1 (τs ++ [t1]) fT S1 hu (by omega) (by omega) (by rw [hln2]; omega) (by rw [hln2]; omega) (by rw [hln2]; omega) (by omega) z (by simp only [List.append_assoc]; exact he) her (fun l σ95 H95 η95 cap95 S95 _ q95 e95 he95 => ?_)
        have hcons : (τs ++ [t1]) ++ l = τs ++ t1 :: l := by rw [List.append_assoc]; rfl
        rw [hcons, hln2] at S95
        rw [hcons] at he95
        exact hT (t1 :: l) σ95 H95 η95 cap95 (SS_mono S95 (by rw [List.length_cons]; omega) (by rw [List.length_cons]; omega)) (fun q => by cases q) (Qy_to (Qy_t q1 q95) (by omega) (by omega)) (Er_t e1 e95) he95
      · rw [zb]
        simp only [if_neg z] at he
        refine yl_Parser_decs_p16 ?_
        unfold yb_Parser_decs_p16
        refine zW_t rfl (zW_rQ ?_)
        exact hT [t1] σ1 H1 η1 _ (SS_mono S1 (by show _ ≤ g - 9 * ((1 : Nat) : Int); omega) (by show _ ≤ h + 40 + 8 * (τs.length : Int) - 4 * cap - 52 * ((1 : Nat) : Int); omega)) (fun q => by cases q) (Qy_to q1 (by omega) (by omega)) e1 he
end YDecs
