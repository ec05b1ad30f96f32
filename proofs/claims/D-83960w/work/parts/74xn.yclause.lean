set_option maxRecDepth 100000
/-! THE HOUSE'S PARSER: clauses of fun (printed by gen/dsl/p74xn.py) -/
def gClT (t : List Int) (R : PX) (ps : List Gt) (pl : Int) (nm : List Int) (σ : Ps) : PR := if pIs σ 38 then pT (pPass t σ) fun σ5 => pB (R 30 [] [] σ5) fun y σ6 => pNeed t 40 σ6 fun σ8 => pB (R 0 [] [] σ8) fun e σ9 => pR (gn 80 [[pl], nm] [gl ps, e, y]) σ9 else pNeed t 40 σ fun σ8 => pB (R 0 [] [] σ8) fun e σ9 => pR (gn 80 [[pl], nm] [gl ps, e]) σ9
theorem gms_80 {b : Bool} {p : List (List Int)} {ps ys : List Gt} {e : Gt} (hy : ys = [] ∨ ∃ y, ys = [y]) : gms b [gn 80 p (gl ps :: e :: ys)] = gms b (ps ++ (ys ++ [e])) := by
  rw [gms_1, gmn_80, gms_app, gms_app, gms_1]
  have h0 : gmn b (gl ps) = gms b ps := gmn_tr (by decide)
  rcases hy with rfl | ⟨y, rfl⟩
  · show gmn b (gl ps) ++ [] ++ gmn b e = _
    rw [h0, List.append_nil]; rfl
  · show gmn b (gl ps) ++ gmn b y ++ gmn b e = _
    rw [h0, gms_1, List.append_assoc]
theorem ho_80 {pl : Int} {nm : List Int} {ps ys : List Gt} {e : Gt} : ho (gn 80 [[pl], nm] (gl ps :: e :: ys)) = oO 60 [18001, pl] [oF 18000 (oS nm), oF 18002 (oL (ps.map ho)), oF 18003 ((ys.map ho).getD 0 oN), oF 18004 (ho e)] := by
  rw [ho_gn, ← ho_gl]
  cases ys with
  | nil => rfl
  | cons y ys => rfl
theorem ho_79 {p : Int} {s : List Gt} : ho (gn 79 [[p]] s) = oO 59 [17700, p] [oF 17701 (oL (s.map ho))] := by
  rw [ho_gn]
  show oO 59 [17700, p] [oF 17701 (oL (hs _))] = _
  rw [hs_map]
theorem ho_72 {s : List Gt} : ho (gn 72 [] s) = oO 58 [] [oF 7200 (oL (gms false s)), oF 7201 (oL (gms true s)), oF 17404 (oL (s.map ho))] := by
  have e1 : (s.map fun x => (x, ho x)).map (fun q => q.1) = s := by rw [List.map_map]; exact List.map_id _
  rw [ho_gn]
  show oO 58 [] [oF 7200 (oL (gms false (List.map _ _))), oF 7201 (oL (gms true (List.map _ _))), oF 17404 (oL (hs _))] = _
  rw [e1, hs_map]
def YCe (C : YC) (B : Nat → Prop) (X : Nat → Nat) (t : List Int) (fs : Ps → PR) (mth lev : Nat) (im : Gt → Gt) (ok : Ps → Gt → Prop) : Prop :=
  ∀ (Γ : Gm) (H : YS) (σ : Ps) (η : Et) (M : List (Gt × Option Nat)) (g h : Int) (d : Nat) (Q : Option (Option ZV) → YS → Prop) (r : (Int × Nat) ⊕ (Gt × Ps)), SS C B X t Γ H σ η M g h → hU mth Γ → g ≤ 2980 → h ≤ 2900 → dep t σ + lev ≤ d → fs σ = some r →
    (∀ e p H', r = .inl (e, p) → Th C B X t Γ H' e p → Q none H') →
    (∀ τ σ1 H1 η1 ro, r = .inr (τ, σ1) → SS C B X t Γ H1 σ1 η1 ((im τ, ro) :: M) (g - 30) (h - 200) → ok σ τ → Qx t 0 1 σ σ1 → Er η η1 [τ] → Q (some (some (.inr (.inr ro)))) H1) → zW (YL C d mth [zr (X 8)] H) Q
section YCls
variable {C : YC} {B P O : Nat → Prop} {X : Nat → Nat} {t : List Int} {Γ : Gm} {H H' : YS} {σ σ1 : Ps} {η η1 : Et} {M : List (Gt × Option Nat)} {g h g' h' : Int} {a e c s d dp cap : Nat} {F : List (List Int × Int × Int)} {Q : Option (Option ZV) → YS → Prop} {r : (Int × Nat) ⊕ (Gt × Ps)} {f : Ps → PR} {θ τ : Gt} {w : Option Nat} {l : List Gt} {tk : Tok} {R : PX}
theorem zW_sube {mth lev : Nat} {fs : Ps → PR} {im : Gt → Gt} {ok : Ps → Gt → Prop} {kk : Option Nat → YS → ZR YS} {fK : Gt → Ps → PR} (ih : YCe C B X t fs mth lev im ok) (hd : dep t σ + lev + 1 ≤ d) (S : SS C B X t Γ H σ η M g h) (hu : hU mth Γ) (hg : g ≤ 2980) (hh : h ≤ 2900) (he : pB (fs σ) fK = some r) (her : ∀ e p H', r = .inl (e, p) → Th C B X t Γ H' e p → Q none H')
    (hk : ∀ τ σ1 H1 η1 ro, SS C B X t Γ H1 σ1 η1 ((im τ, ro) :: M) (g - 30) (h - 200) → ok σ τ → Qx t 0 1 σ σ1 → Er η η1 [τ] → fK τ σ1 = some r → zW (kk ro H1) Q) : zW (zQ (ycv (YL C) d [(6, mth)] (some (X 8)) [] H) kk) Q := by
  obtain ⟨d, rfl⟩ : ∃ e, d = e + 1 := ⟨d - 1, by omega⟩
  rw [ycv_s (SS_8 S) ⟨by decide, rfl⟩]
  cases hR : fs σ with
  | none => rw [hR] at he; cases he
  | some q =>
    rw [hR] at he
    refine zW_Q (P := fun v H1 => ∃ τ σ1 η1, q = .inr (τ, σ1) ∧ SS C B X t Γ H1 σ1 η1 ((im τ, v) :: M) (g - 30) (h - 200) ∧ ok σ τ ∧ Qx t 0 1 σ σ1 ∧ Er η η1 [τ]) (T := fun H1 => ∃ e p, q = .inl (e, p) ∧ Th C B X t Γ H1 e p) (zW_c (ih Γ H σ η M g h d _ q S hu hg hh (by omega) hR (fun e p H1 w T => ⟨e, p, w, T⟩) (fun τ σ1 H1 η1 ro w S1 o1 q1 e1 => ⟨τ, σ1, η1, w, S1, o1, q1, e1⟩))) ?_ ?_
    · rintro v H1 ⟨τ, σ1, η1, rfl, S1, o1, q1, e1⟩
      exact hk τ σ1 H1 η1 v S1 o1 q1 e1 he
    · rintro H1 ⟨e, p, rfl, T⟩
      exact her e p H1 (Option.some.inj he).symm T
theorem y_806 {ps : List Gt} {nm : List Int} {x3 : Int} {xs : Option Nat} {l1 : Nat} (h30 : YCf C B X t (R 30 [] []) 126 4 ho okTy) (h0 : YCf C B X t (R 0 [] []) 140 10 ho okEx) (S : SS C B X t Γ H σ η ((oC cap (ps.map ho), some l1) :: (oS nm, xs) :: M) g h) (hu : Γ.2.2.2.2 = 0) (hg : g ≤ 3000) (hh : h ≤ 3000) (hd : dep t σ + 11 ≤ d) (he : gClT t R ps x3 nm σ = some r) (her : ∀ e p H', r = .inl (e, p) → Th C B X t Γ H' e p → Q none H')
    (hk : ∀ τ σ1 H1 η1 ro l, r = .inr (τ, σ1) → SS C B X t Γ H1 σ1 η1 ((ho τ, ro) :: M) (g - 39) (h - 255) → Qx t 0 1 σ σ1 → Er η η1 l → okG (ho τ) → gk τ = 80 → (∀ b, gms b [τ] = gms b (ps ++ l)) → Q (some (some (.inr (.inr ro)))) H1) : zW (YL C d 806 [zr (X 8), zr l1, .inr (.inr xs), .inl x3] H) Q := by
  have d40 := dep_40 S
  have vl := SS_vl S
  unfold gClT at he
  refine yl_Parser_clause_p162 ?_
  unfold yb_Parser_clause_p162
  refine zW_takes 38 122 (by decide) (by omega) S (by omega) (by omega) he her (fun u1 he => ?_) (fun u1 σ1 H1 η1 S1 p1 w1 he => ?_)
  · refine yl_Parser_clause_p180 ?_
    unfold yb_Parser_clause_p180
    refine zW_let ?_
    refine zW_need 40 1 (by decide) (by omega) S (by omega) (by omega) he her (fun _ σ2 H2 η2 S2 p2 w2 he => ?_)
    have q2 := Qx_p p2
    have m2 := q2.2.2.1
    have d2 := dep_le q2
    have vn2 := congrArg List.length w2.2
    have vd2 := q2.1
    have S3 := SS_new (kd := 60) (n := 5) (p := []) S2 (by decide) trivial
    refine zW_new ?_
    rw [if_neg (show ¬ (60 : Nat) = 3 by decide)]
    refine zW_sub h0 (by omega) S3 hu (by omega) (by omega) he her (fun t4 σ4 H4 η4 ro4 S4 o4 q4 e4 he => ?_)
    have m4 := q4.2.2.1
    have d4 := dep_le q4
    have vn4 := Er_len e4
    have vd4 := q4.1
    have S5 := SS_no S4
    have S6 := SS_pk 4 [3, 0, 1, 2] rfl rfl S5
    have S7 := SS_oL S6
    have S8 := SS_pk 5 [3, 4, 0, 1, 2] rfl rfl S7
    refine m_Clause (by omega) S8 (fun H9 S9 => ?_)
    refine zW_rQ (hk (gn 80 [[x3], nm] (gl ps :: t4 :: [])) σ4 H9 η4 _ ([] ++ [t4]) (Option.some.inj he).symm ?_ (Qx_to (Qx_t q2 q4) (by omega) (by omega)) (Er_o w2 e4) (by rw [ho_80]; exact okO (by decide)) rfl (fun b => gms_80 (Or.inl rfl)))
    rw [ho_80]
    exact SS_mono S9 (by omega) (by omega)
  · have q1 := Qx_p p1
    have m1 := q1.2.2.1
    have d1 := dep_le q1
    have vn1 := congrArg List.length w1.2
    have vd1 := q1.1
    refine zW_sub h30 (by omega) S1 (Or.inl hu) (by omega) (by omega) he her (fun t10 σ10 H10 η10 ro10 S10 o10 q10 e10 he => ?_)
    have m10 := q10.2.2.1
    have d10 := dep_le q10
    have vn10 := Er_len e10
    have vd10 := q10.1
    refine yl_Parser_clause_p180 ?_
    unfold yb_Parser_clause_p180
    refine zW_let ?_
    refine zW_need 40 1 (by decide) (by omega) S10 (by omega) (by omega) he her (fun _ σ11 H11 η11 S11 p11 w11 he => ?_)
    have q11 := Qx_p p11
    have m11 := q11.2.2.1
    have d11 := dep_le q11
    have vn11 := congrArg List.length w11.2
    have vd11 := q11.1
    have S12 := SS_new (kd := 60) (n := 5) (p := []) S11 (by decide) trivial
    refine zW_new ?_
    rw [if_neg (show ¬ (60 : Nat) = 3 by decide)]
    refine zW_sub h0 (by omega) S12 hu (by omega) (by omega) he her (fun t13 σ13 H13 η13 ro13 S13 o13 q13 e13 he => ?_)
    have m13 := q13.2.2.1
    have d13 := dep_le q13
    have vn13 := Er_len e13
    have vd13 := q13.1
    have S14 := SS_pk 4 [3, 0, 1, 2] rfl rfl S13
    have S15 := SS_oL S14
    have S16 := SS_pk 5 [2, 4, 0, 3, 1] rfl rfl S15
    refine m_Clause (by omega) S16 (fun H17 S17 => ?_)
    refine zW_rQ (hk (gn 80 [[x3], nm] (gl ps :: t13 :: [t10])) σ13 H17 η13 _ ([t10] ++ [t13]) (Option.some.inj he).symm ?_ (Qx_to (Qx_t q1 (Qx_t q10 (Qx_t q11 q13))) (by omega) (by omega)) (Er_t (Er_e (Er_o w1 e10) w11) e13) (by rw [ho_80]; exact okO (by decide)) rfl (fun b => gms_80 (Or.inr ⟨_, rfl⟩)))
    rw [ho_80]
    exact SS_mono S17 (by omega) (by omega)
theorem y_patsLoop : ∀ (n : Nat), (∀ n', n' < n → YCf C B X t (sP t n' 25 [] []) 113 7 ho okPa) → ∀ (Γ : Gm) (H : YS) (σ : Ps) (η : Et) (M : List (Gt × Option Nat)) (g h : Int) (d : Nat) (Q : Option (Option ZV) → YS → Prop) (r : (Int × Nat) ⊕ (Gt × Ps)) (cap l1 : Nat) (xs : Option Nat) (x3 : Int) (τs : List Gt) (fT : List Gt → Ps → PR), SS C B X t Γ H σ η ((oC cap (τs.map ho), some l1) :: M) g h → Γ.2.2.2.2 = 0 → g ≤ 3000 → h + 8 * τs.length ≤ 2960 + 4 * cap → cap ≤ 10 + 2 * τs.length → τs.length + pmu t σ ≤ 999 → dep t σ + 8 ≤ d → pB (sP t n 46 [] [] σ) (fun l σ2 => fT (τs ++ gs l) σ2) = some r →
      (∀ e p H', r = .inl (e, p) → Th C B X t Γ H' e p → Q none H') →
      (∀ l σ2 H2 η2 cap2, SS C B X t Γ H2 σ2 η2 ((oC cap2 ((τs ++ l).map ho), some l1) :: M) (g - 9 * l.length) (h + 40 + 8 * τs.length - 4 * cap - 52 * l.length) → l ≠ [] → Qx t 0 1 σ σ2 → Er η η2 l → (τs ++ l).length + pmu t σ2 ≤ 999 → fT (τs ++ l) σ2 = some r → zW (YL C d 806 [zr (X 8), zr l1, .inr (.inr xs), .inl x3] H2) Q) → zW (YL C d 807 [zr (X 8), zr l1, .inr (.inr xs), .inl x3] H) Q := by
  intro n
  induction n with
  | zero =>
    intro _ Γ H σ η M g h d Q r cap l1 xs x3 τs fT S hu hg hh hc hl hd he
    cases he
  | succ n ih =>
    intro h25 Γ H σ η M g h d Q r cap l1 xs x3 τs fT S hu hg hh hc hl hd he her hT
    have d40 := dep_40 S
    have vl := SS_vl S
    have hmp : (τs.map ho).length = τs.length := List.length_map _
    have he : pB (gPats (sP t n) σ) (fun l σ2 => fT (τs ++ gs l) σ2) = some r := he
    unfold gPats at he
    simp only [pB_pT, pB_ite, pB_pR, pB_pWr, pB_in, pB_ass, pB_pNeed, pB_pOpens, pB_pCloses, pB_pName, pB_pAny, pB_pOpn, pB_pLab, gs_gl, cons1] at he
    refine yl_Parser_clause_p86 ?_
    unfold yb_Parser_clause_p86
    refine zW_sub (h25 n (by omega)) (by omega) S hu (by omega) (by omega) he her (fun t1 σ1 H1 η1 ro1 S1 o1 q1 e1 he => ?_)
    have m1 := q1.2.2.1
    have d1 := dep_le q1
    have vn1 := Er_len e1
    have vd1 := q1.1
    have S3 := SS_pk 2 [1, 0] rfl rfl S1
    refine zW_add (by omega) (by omega) (okP_G o1.1) S3 (fun H2 c2 S2 f2 f2' => ?_)
    refine zW_isAtP (by omega) S2 (fun u4 => ?_) (fun u4 => ?_)
    · refine zW_f (by decide) ?_
      rw [if_pos u4] at he
      rw [show τs.map ho ++ [ho t1] = (τs ++ [t1]).map ho by rw [List.map_append]; rfl] at S2
      have hln2 : (τs ++ [t1]).length = τs.length + 1 := by rw [List.length_append]; rfl
      refine ih (fun n' hn' => h25 n' (by omega)) Γ H2 σ1 η1 M _ _ d Q r _ l1 xs x3 (τs ++ [t1]) fT S2 hu (by omega) (by rw [hln2]; omega) (by rw [hln2]; omega) (by rw [hln2]; omega) (by omega) (by simp only [List.append_assoc]; exact he) her (fun l σ95 H95 η95 cap95 S95 _ q95 e95 z95 he95 => ?_)
      have hcons : (τs ++ [t1]) ++ l = τs ++ t1 :: l := by rw [List.append_assoc]; rfl
      rw [hcons, hln2] at S95
      rw [hcons] at he95 z95
      exact hT (t1 :: l) σ95 H95 η95 cap95 (SS_mono S95 (by rw [List.length_cons]; omega) (by rw [List.length_cons]; omega)) (fun q => by cases q) (Qx_to (Qx_t q1 q95) (by omega) (by omega)) (Er_t e1 e95) z95 he95
    · refine zW_t rfl ?_
      rw [if_neg u4] at he
      rw [show τs.map ho ++ [ho t1] = (τs ++ [t1]).map ho by rw [List.map_append]; rfl] at S2
      exact hT [t1] σ1 H2 η1 _ (SS_mono S2 (by show _ ≤ g - 9 * ((1 : Nat) : Int); omega) (by show _ ≤ h + 40 + 8 * (τs.length : Int) - 4 * cap - 52 * ((1 : Nat) : Int); omega)) (fun q => by cases q) (Qx_to q1 (by omega) (by omega)) e1 (by rw [List.length_append]; show _ + 1 + _ ≤ _; omega) he
theorem y_clause {n : Nat} (h25 : ∀ n', n' ≤ n → YCf C B X t (sP t n' 25 [] []) 113 7 ho okPa) (h30 : ∀ n', n' ≤ n → YCf C B X t (sP t n' 30 [] []) 126 4 ho okTy) (h0 : ∀ n', n' ≤ n → YCf C B X t (sP t n' 0 [] []) 140 10 ho okEx) (hlen : t.length ≤ 900) : YCe C B X t (gClause t (sP t n)) 159 13 ho (fun _ τ => okG (ho τ)) := by
  intro Γ H σ η M g h d Q r S hu hg hh hd he her hk
  have d40 := dep_40 S
  have vl := SS_vl S
  have hmu := pmu_le (t := t) (σ := σ)
  unfold gClause at he
  simp only [pB_pT, pB_ite, pB_pR, pB_pWr, pB_in, pB_ass, pB_pNeed, pB_pOpens, pB_pCloses, pB_pName, pB_pAny, pB_pOpn, pB_pLab, gs_gl, cons1, gs_gn, gp_gn] at he
  have k1 : ∀ (H : YS) (l1 : Nat) (g' h' : Int), SS C B X t Γ H σ η ((oC 0 [], some l1) :: M) g' h' → g' ≤ g + 1 → h' ≤ h + 3 → (tIs (pc σ) 20 ∨ (tNm (pF σ) (pc σ) ∧ pSt (pF σ) (pk σ) = none)) → zW (YL C d 610 [zr (X 8), zr l1, .inl 1] H) Q := by
    intro H l1 g' h' S hg1 hh1 hc
    rw [if_pos hc] at he
    unfold pOpn at he
    refine yl_Parser_clause_p58 ?_
    unfold yb_Parser_clause_p58
    refine zW_let ?_
    refine zW_f (by decide) ?_
    refine zW_takesK 20 112 (by decide) (by omega) S (by omega) (by omega) he her (fun u301 he => ?_) (fun u301 σ301 H301 η301 S301 p301 w301 he => ?_)
    · have hnm : (pc σ).1 = 1 := by
        rcases hc with z | z
        · exact absurd z u301
        · exact z.1.1
      have he := pName_any hnm he
      refine zW_plc S ?_
      refine zW_let ?_
      refine zW_any (by omega) S (by omega) (by omega) he her (fun k302 x302 σ302 H302 η302 S302 p302 w302 he => ?_)
      have q302 := Qx_p p302
      have m302 := q302.2.2.1
      have d302 := dep_le q302
      have vn302 := congrArg List.length w302.2
      have vd302 := q302.1
      refine zW_let ?_
      have S303 := SS_pk 2 [1, 0] rfl rfl S302
      have he : pB (sP t n 46 [] [] σ302) (fun l σ2 => (fun l σ2 => gClT t (sP t n) l ((pc σ).2.1 : Int) (pc σ).2.2.1 σ2) ([] ++ gs l) σ2) = some r := he
      refine y_patsLoop n (fun n' q => h25 n' (by omega)) Γ H302 σ302 η302 ((oS (pc σ).2.2.1, some x302) :: M) _ _ d Q r _ _ _ ((pc σ).2.1 : Int) [] (fun l σ2 => gClT t (sP t n) l ((pc σ).2.1 : Int) (pc σ).2.2.1 σ2) S303 hu (by omega) (by show _ + 8 * ((0 : Nat) : Int) ≤ _; omega) (by omega) (by show 0 + _ ≤ _; omega) (by omega) he her (fun l σ95 H95 η95 cap95 S95 n95 q95 e95 z95 he95 => ?_)
      simp only [List.length_nil, List.nil_append] at S95 he95
      have m95 := q95.2.2.1
      have d95 := dep_le q95
      have hl1 : 1 ≤ l.length := List.length_pos_iff.mpr n95
      refine y_806 (h30 n (Nat.le_refl _)) (h0 n (Nat.le_refl _)) S95 hu (by omega) (by omega) (by omega) he95 her (fun τ σ96 H96 η96 ro96 l96 e96 S96 q96 er96 k96 _ g96 => hk τ σ96 H96 η96 ro96 e96 (SS_mono S96 (by omega) (by omega)) k96 (Qx_to (Qx_t q302 (Qx_t q95 q96)) (by omega) (by omega)) (Er_c (g96 false).symm (g96 true).symm (Er_t (Er_o w302 e95) er96)))
    · have q301 := Qx_p p301
      have m301 := q301.2.2.1
      have d301 := dep_le q301
      have vn301 := congrArg List.length w301.2
      have vd301 := q301.1
      refine zW_plc S301 ?_
      refine zW_let ?_
      refine zW_any (by omega) S301 (by omega) (by omega) he her (fun k304 x304 σ304 H304 η304 S304 p304 w304 he => ?_)
      have q304 := Qx_p p304
      have m304 := q304.2.2.1
      have d304 := dep_le q304
      have vn304 := congrArg List.length w304.2
      have vd304 := q304.1
      refine zW_let ?_
      have S305 := SS_pk 2 [1, 0] rfl rfl S304
      have he : pB (sP t n 46 [] [] σ304) (fun l σ2 => (fun l σ2 => gClT t (sP t n) l ((pc σ301).2.1 : Int) (pc σ301).2.2.1 σ2) ([] ++ gs l) σ2) = some r := he
      refine y_patsLoop n (fun n' q => h25 n' (by omega)) Γ H304 σ304 η304 ((oS (pc σ301).2.2.1, some x304) :: M) _ _ d Q r _ _ _ ((pc σ301).2.1 : Int) [] (fun l σ2 => gClT t (sP t n) l ((pc σ301).2.1 : Int) (pc σ301).2.2.1 σ2) S305 hu (by omega) (by show _ + 8 * ((0 : Nat) : Int) ≤ _; omega) (by omega) (by show 0 + _ ≤ _; omega) (by omega) he her (fun l σ95 H95 η95 cap95 S95 n95 q95 e95 z95 he95 => ?_)
      simp only [List.length_nil, List.nil_append] at S95 he95
      have m95 := q95.2.2.1
      have d95 := dep_le q95
      have hl1 : 1 ≤ l.length := List.length_pos_iff.mpr n95
      refine y_806 (h30 n (Nat.le_refl _)) (h0 n (Nat.le_refl _)) S95 hu (by omega) (by omega) (by omega) he95 her (fun τ σ96 H96 η96 ro96 l96 e96 S96 q96 er96 k96 _ g96 => hk τ σ96 H96 η96 ro96 e96 (SS_mono S96 (by omega) (by omega)) k96 (Qx_to (Qx_t (Qx_t q301 q304) (Qx_t q95 q96)) (by omega) (by omega)) (Er_c (g96 false).symm (g96 true).symm (Er_t (Er_o ⟨w304.1.trans w301.1, w304.2.trans w301.2⟩ e95) er96)))
  have k0 : ∀ (H : YS) (l1 : Nat) (g' h' : Int), SS C B X t Γ H σ η ((oC 0 [], some l1) :: M) g' h' → g' ≤ g + 1 → h' ≤ h + 3 → ¬ (tIs (pc σ) 20 ∨ (tNm (pF σ) (pc σ) ∧ pSt (pF σ) (pk σ) = none)) → zW (YL C d 610 [zr (X 8), zr l1, .inl 0] H) Q := by
    intro H l1 g' h' S hg1 hh1 hc
    rw [if_neg hc] at he
    refine yl_Parser_clause_p58 ?_
    unfold yb_Parser_clause_p58
    refine zW_let ?_
    refine zW_t rfl ?_
    refine zW_sub (h25 n (Nat.le_refl _)) (by omega) S hu (by omega) (by omega) he her (fun t501 σ501 H501 η501 ro501 S501 o501 q501 e501 he => ?_)
    have m501 := q501.2.2.1
    have d501 := dep_le q501
    have vn501 := Er_len e501
    have vd501 := q501.1
    refine zW_let ?_
    refine zW_str (by omega) S501 (fun u502 => ?_) (fun u502 => ?_)
    · rw [if_pos u502] at he
      exact zW_wr (by omega) S501 (by omega) (by omega) he her
    · rw [if_neg u502] at he
      refine zW_plc S501 ?_
      refine zW_let ?_
      refine zW_txt S501 (fun x503 hx503 S503 => ?_)
      refine zW_let ?_
      refine zW_pass (by omega) S503 (fun z => u502 (by unfold pSt; rw [if_neg (by omega)])) (by omega) (by omega) he her (fun σ504 H504 η504 S504 p504 w504 he => ?_)
      have q504 := Qx_p p504
      have m504 := q504.2.2.1
      have d504 := dep_le q504
      have vn504 := congrArg List.length w504.2
      have vd504 := q504.1
      refine zW_sub (h25 n (Nat.le_refl _)) (by omega) S504 hu (by omega) (by omega) he her (fun t505 σ505 H505 η505 ro505 S505 o505 q505 e505 he => ?_)
      have m505 := q505.2.2.1
      have d505 := dep_le q505
      have vn505 := Er_len e505
      have vd505 := q505.1
      have S506 := SS_pk 3 [2, 0, 1] rfl rfl S505
      obtain ⟨ya, rfl, -⟩ := SS_bgP o501.1 S506
      obtain ⟨yb, rfl, -⟩ := SS_bgP o505.1 (SS_up 1 S506 rfl)
      refine zW_paired (by omega) o501.1 o505.1 S506 (fun H507 ro507 S507 => ?_)
      rw [show oO 25 [7500, gbg t501, 7504, 0] [oF 7501 (oL (nlb 2)), oF 7502 oN, oF 7503 (oL [ho t501, ho t505])] = ho (gn 41 [[gbg t501]] [t501, t505]) by rw [ho_41]; rfl] at S507
      have S509 := SS_pk 3 [2, 0, 1] rfl rfl S507
      refine zW_add (by omega) (by omega) (okP_G (τ := gn 41 [[gbg t501]] [t501, t505]) ⟨(by decide : 30 ≤ 41), (by decide : 41 ≤ 41)⟩) S509 (fun H508 c508 S508 f508 f508' => ?_)
      have S90 : SS C B X t Γ H508 σ505 η505 ((oC _ ([gn 41 [[gbg t501]] [t501, t505]].map ho), some l1) :: (oS (pc σ501).2.2.1, some x503) :: M) _ _ := S508
      have lz : ([] : List Gt).length = 0 := rfl
      have he : gClT t (sP t n) [gn 41 [[gbg t501]] [t501, t505]] ((pc σ501).2.1 : Int) (pc σ501).2.2.1 σ505 = some r := he
      refine y_806 (h30 n (Nat.le_refl _)) (h0 n (Nat.le_refl _)) S90 hu (by omega) (by omega) (by omega) he her (fun τ σ96 H96 η96 ro96 l96 e96 S96 q96 er96 k96 _ g96 => hk τ σ96 H96 η96 ro96 e96 (SS_mono S96 (by omega) (by omega)) k96 (Qx_to (Qx_t (Qx_t q501 (Qx_t q504 q505)) q96) (by omega) (by omega)) (Er_c (g96 false).symm (g96 true).symm (Er_t (Er_n (by decide) (Er_t (Er_e e501 w504) e505)) er96)))
  refine yl_Parser_clause ?_
  unfold yb_Parser_clause
  refine zW_alnew (by omega) S (fun H1 l1 S1 => ?_)
  refine zW_let ?_
  refine zW_tis 20 112 (by decide) (by omega) S1 (fun u2 => ?_) (fun u2 => ?_)
  · skip
    exact k1 H1 _ _ _ S1 (by omega) (by omega) (Or.inl u2)
  · skip
    refine zW_isNm (by omega) S1 (fun u3 => ?_) (fun u3 => ?_)
    · refine zW_f (by decide) ?_
      refine zW_str (by omega) S1 (fun u4 => ?_) (fun u4 => ?_)
      · refine zW_strn (by omega) S1 (fun u5 => ?_) (fun u5 => ?_)
        · exact k1 H1 _ _ _ S1 (by omega) (by omega) (Or.inr ⟨⟨u3, u4⟩, u5⟩)
        · exact k0 H1 _ _ _ S1 (by omega) (by omega) (fun z => z.elim u2 (fun z => u5 z.2))
      · exact k0 H1 _ _ _ S1 (by omega) (by omega) (fun z => z.elim u2 (fun z => u4 z.1.2))
    · refine zW_t rfl ?_
      exact k0 H1 _ _ _ S1 (by omega) (by omega) (fun z => z.elim u2 (fun z => u3 z.1.1))
end YCls
