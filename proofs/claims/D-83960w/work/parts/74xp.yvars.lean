set_option maxRecDepth 100000
/-! THE HOUSE'S PARSER: VARIABLES of a type, type, exception (printed by gen/dsl/p74xp.py) -/
abbrev oMt (v : Gt) : Gt := oM (hq (gp v) 0) (hnm (gp v))
theorem okM {p : Int} {b : List Int} : okG (oM p b) := Or.inr ⟨(by decide : 101 ≤ 105), (by decide : 105 ≤ 106)⟩
theorem ho_73 {p : Int} {b : List Int} {y : Gt} {vs : List Gt} : ho (gn 73 [[p], b] (y :: vs)) = oO 61 [18302, p] [oF 18300 (oL (vs.map oMt)), oF 18301 (oS b), oF 18303 (ho y)] := by
  have e1 : ((((y :: vs).map fun x => (x, ho x)).map fun q => q.1).drop 1).map oMt = vs.map oMt := by
    rw [List.map_map, ← List.map_drop]; show ((vs.map id).map oMt) = _; rw [List.map_id]
  rw [ho_gn]
  show oO 61 [18302, p] [oF 18300 (oL (((((y :: vs).map fun x => (x, ho x)).map fun q => q.1).drop 1).map oMt)), oF 18301 (oS b), oF 18303 (ho y)] = _
  rw [e1]
theorem ho_75 {p : Int} {b : List Int} {ys : List Gt} : ho (gn 75 [[p], b] ys) = oO 65 [19501, p, 19504, 0] [oF 19500 (oS b), oF 19502 ((ys.map ho).getD 0 oN), oF 19503 oN] := by
  rw [ho_gn]
  cases ys <;> rfl
theorem ho_76 {p q : Int} {b b' : List Int} : ho (gn 76 [[p, q], b, b'] []) = oO 65 [19501, p, 19504, q] [oF 19500 (oS b), oF 19502 oN, oF 19503 (oS b')] := by
  rw [ho_gn]; rfl
theorem Er_d {η η1 : Et} {k : Nat} {p : List (List Int)} {s : List Gt} (hk : k = 73 ∨ k = 74 ∨ k = 75) (h : Er η η1 []) : Er η η1 [gn k p s] := Er_c (by rw [gms_1, gmn_73 hk]; rfl) (by rw [gms_1, gmn_73 hk]; rfl) h
theorem Er_76 {η η1 : Et} {p : List (List Int)} (h : Er η η1 []) : Er η η1 [gn 76 p []] := Er_n (by decide) h
section YVars
variable {C : YC} {B P O : Nat → Prop} {X : Nat → Nat} {t : List Int} {Γ : Gm} {H H' : YS} {σ σ1 : Ps} {η η1 : Et} {M : List (Gt × Option Nat)} {g h g' h' : Int} {a e c s d dp cap : Nat} {F : List (List Int × Int × Int)} {Q : Option (Option ZV) → YS → Prop} {r : (Int × Nat) ⊕ (Gt × Ps)} {f : Ps → PR} {θ τ : Gt} {w : Option Nat} {l : List Gt} {tk : Tok} {R : PX}

theorem zW_full {M : List (Gt × Option Nat)} (hd : 3 ≤ d) (S : SS C B X t Γ H σ η M g h) (hg : g ≤ 4000) (hh : h ≤ 4000) (he : some (.inl (4, (pc σ).2.1)) = some r) (her : ∀ e p H', r = .inl (e, p) → Th C B X t Γ H' e p → Q none H') : zW (ygR 1800 (some (X 8)) H fun v6 => ygR 1804 (some (X 8)) H fun v7 => ygI 6601 v7 H fun v8 => zQ (ycv (YL C) d [(1, 48)] v6 [.inl 4, .inl v8] H) fun v10 h9 => ythrow v10 h9) Q := by
  obtain ⟨d, rfl⟩ : ∃ e, d = e + 2 := ⟨d - 2, by omega⟩
  have hF := SS_F S
  obtain ⟨p1, p2, p3, p4, ⟨ac, p5, p6⟩, p7⟩ := SS_P S
  refine zW_gR p2 rfl (zW_gR p2 rfl ?_)
  rw [p3, p5]
  refine zW_gI p6.2.1 rfl ?_
  rw [p6.2.2.2.1, ycv_s hF.1.2.1.2.2.2.1 ⟨by decide, rfl⟩]
  exact zW_Qe (y_at hF) (zW_ythrow (by exact hF.1.2.1.2.2.2.2.1) (her _ _ _ (Option.some.inj he).symm (Th_of S (by omega) (by omega))))
theorem y_varsLoop : ∀ (n : Nat) (Γ : Gm) (H : YS) (σ : Ps) (η : Et) (M : List (Gt × Option Nat)) (g h : Int) (d : Nat) (Q : Option (Option ZV) → YS → Prop) (r : (Int × Nat) ⊕ (Gt × Ps)) (cap l1 : Nat) (m : Int) (τs : List Gt) (fT : List Gt → Ps → PR), m = τs.length → SS C B X t Γ H σ η ((oC cap (τs.map oMt), some l1) :: M) g h → g ≤ 3000 → h + 8 * τs.length ≤ 2960 + 4 * cap → cap ≤ 10 + 2 * τs.length → τs.length ≤ 8 → dep t σ + 17 ≤ d → pB (sP t n 48 [m] [] σ) (fun l σ2 => fT (τs ++ gs l) σ2) = some r →
      (∀ e p H', r = .inl (e, p) → Th C B X t Γ H' e p → Q none H') →
      (∀ l σ2 H2 η2 cap2, SS C B X t Γ H2 σ2 η2 ((oC cap2 ((τs ++ l).map oMt), some l1) :: M) (g - 28 * l.length) (h + 40 + 8 * τs.length - 4 * cap - 190 * l.length) → l ≠ [] → Qx t 0 1 σ σ2 → Er η η2 [] → fT (τs ++ l) σ2 = some r → zW (zV (ycv (YL C) d [(6, 118)] (some (X 8)) [.inr (.inr (some (C.1 117)))] H2) fun h23 => zrQ (some l1) h23) Q) → zW (YL C d 611 [zr (X 8), zr l1] H) Q := by
  intro n
  induction n with
  | zero =>
    intro Γ H σ η M g h d Q r cap l1 m τs fT hm S hg hh hc hl hd he
    cases he
  | succ n ih =>
    intro Γ H σ η M g h d Q r cap l1 m τs fT hm S hg hh hc hl hd he her hT
    have d40 := dep_40 S
    have vl := SS_vl S
    have hmp : (τs.map oMt).length = τs.length := List.length_map _
    have he : pB (gVarsR t m (sP t n) σ) (fun l σ2 => fT (τs ++ gs l) σ2) = some r := he
    unfold gVarsR at he
    simp only [pB_pT, pB_ite, pB_pR, pB_pWr, pB_in, pB_ass, pB_pNeed, pB_pOpens, pB_pCloses, pB_pName, pB_pAny, pB_pOpn, pB_pLab, gs_gl, cons1] at he
    refine yl_Parser_vars_p72 ?_
    unfold yb_Parser_vars_p72
    refine zW_kd 2 11 (by decide) rfl S (fun u1 => ?_) (fun u1 => ?_)
    · rw [if_neg (fun z => z u1)] at he
      refine zW_size (by omega) S ?_
      refine zW_if (fun y => ?_) (fun y => ?_)
      · rw [if_pos (show m = 8 by omega)] at he
        exact zW_full (by omega) S (by omega) (by omega) he her
      · rw [if_neg (show ¬ m = 8 by omega)] at he
        refine zW_mention (by omega) S (fun H2 mn2 hm2 S2 => ?_)
        have S2 := SS_im (by decide) hm2 S2
        have S4 := SS_pk 2 [1, 0] rfl rfl S2
        refine zW_add (by omega) (by omega) okM S4 (fun H3 c3 S3 f3 f3' => ?_)
        refine zW_pass (by omega) S3 (by have := u1; omega) (by omega) (by omega) he her (fun σ5 H5 η5 S5 p5 w5 he => ?_)
        have q5 := Qx_p p5
        have m5 := q5.2.2.1
        have d5 := dep_le q5
        have vn5 := congrArg List.length w5.2
        have vd5 := q5.1
        refine zW_takes 34 118 (by decide) (by omega) S5 (by omega) (by omega) he her (fun u6 he => ?_) (fun u6 σ6 H6 η6 S6 p6 w6 he => ?_)
        · rw [show τs.map oMt ++ [oM ((pc σ).2.1 : Int) (pc σ).2.2.1] = (τs ++ [gn 50 [[((pc σ).2.1 : Int)], (pc σ).2.2.1] []]).map oMt by rw [List.map_append]; rfl] at S5
          exact hT [gn 50 [[((pc σ).2.1 : Int)], (pc σ).2.2.1] []] σ5 H5 η5 _ (SS_mono S5 (by show _ ≤ g - 28 * ((1 : Nat) : Int); omega) (by show _ ≤ h + 40 + 8 * (τs.length : Int) - 4 * cap - 190 * ((1 : Nat) : Int); omega)) (fun q => by cases q) (Qx_to q5 (by omega) (by omega)) (Er_1 w5) he
        · have q6 := Qx_p p6
          have m6 := q6.2.2.1
          have d6 := dep_le q6
          have vn6 := congrArg List.length w6.2
          have vd6 := q6.1
          rw [show τs.map oMt ++ [oM ((pc σ).2.1 : Int) (pc σ).2.2.1] = (τs ++ [gn 50 [[((pc σ).2.1 : Int)], (pc σ).2.2.1] []]).map oMt by rw [List.map_append]; rfl] at S6
          have hln2 : (τs ++ [gn 50 [[((pc σ).2.1 : Int)], (pc σ).2.2.1] []]).length = τs.length + 1 := by rw [List.length_append]; rfl
          refine ih Γ H6 σ6 η6 M _ _ d Q r _ l1 (m + 1) (τs ++ [gn 50 [[((pc σ).2.1 : Int)], (pc σ).2.2.1] []]) fT (by rw [hln2]; omega) S6 (by omega) (by rw [hln2]; omega) (by rw [hln2]; omega) (by rw [hln2]; omega) (by omega) (by simp only [List.append_assoc]; exact he) her (fun l σ95 H95 η95 cap95 S95 _ q95 e95 he95 => ?_)
          have hcons : (τs ++ [gn 50 [[((pc σ).2.1 : Int)], (pc σ).2.2.1] []]) ++ l = τs ++ gn 50 [[((pc σ).2.1 : Int)], (pc σ).2.2.1] [] :: l := by rw [List.append_assoc]; rfl
          rw [hcons, hln2] at S95
          rw [hcons] at he95
          exact hT (gn 50 [[((pc σ).2.1 : Int)], (pc σ).2.2.1] [] :: l) σ95 H95 η95 cap95 (SS_mono S95 (by rw [List.length_cons]; omega) (by rw [List.length_cons]; omega)) (fun q => by cases q) (Qx_to (Qx_t (Qx_t q5 q6) q95) (by omega) (by omega)) (Er_t (Er_1 ⟨w6.1.trans w5.1, w6.2.trans w5.2⟩) e95) he95
    · rw [if_pos u1] at he
      exact zW_wr (by omega) S (by omega) (by omega) he her
theorem zW_vars {n : Nat} {kk : Option Nat → YS → ZR YS} {fK : Gt → Ps → PR} (hd : dep t σ + 20 ≤ d) (S : SS C B X t Γ H σ η M g h) (hu : Γ.2.2.2.2 = 0) (hg : g ≤ 2990) (hh : h ≤ 2940) (he : pB (sP t n 47 [] [] σ) fK = some r) (her : ∀ e p H', r = .inl (e, p) → Th C B X t Γ H' e p → Q none H')
    (hk : ∀ l σ1 H1 η1 a, SS C B X t Γ H1 σ1 η1 ((oL (l.map oMt), some a) :: M) (g + 1) (h + 3) → Qx t 0 0 σ σ1 → Er η η1 [] → fK (gl l) σ1 = some r → zW (kk (some a) H1) Q) : zW (zQ (ycv (YL C) d [(6, 161)] (some (X 8)) [] H) kk) Q := by
  obtain ⟨d, rfl⟩ : ∃ e, d = e + 1 := ⟨d - 1, by omega⟩
  have d40 := dep_40 S
  have vl := SS_vl S
  have lz : ([] : List Gt).length = 0 := rfl
  rw [ycv_s (SS_8 S) ⟨by decide, rfl⟩]
  cases n with
  | zero => cases he
  | succ n =>
  have he : pB (gVars t (sP t n) σ) fK = some r := he
  unfold gVars at he
  simp only [pB_pT, pB_ite, pB_pR, pB_pWr, pB_in, pB_ass, pB_pNeed, pB_pOpens, pB_pCloses, pB_pName, pB_pAny, pB_pOpn, pB_pLab, gs_gl, cons1] at he
  refine zW_Q (P := fun v H1 => ∃ l σ1 η1 a, v = some a ∧ SS C B X t Γ H1 σ1 η1 ((oL (l.map oMt), some a) :: M) (g + 1) (h + 3) ∧ Qx t 0 0 σ σ1 ∧ Er η η1 [] ∧ fK (gl l) σ1 = some r) (T := fun H1 => Q none H1) (zW_c (yl_Parser_vars ?_)) (fun ro H1 ⟨l, σ1, η1, a, w0, w1, w3, w4, w5⟩ => by rw [w0]; exact hk l σ1 H1 η1 a w1 w3 w4 w5) (fun _ q => q)
  unfold yb_Parser_vars
  refine zW_alnew (by omega) S (fun H1 l1 S1 => ?_)
  refine zW_let ?_
  refine zW_kd 2 11 (by decide) rfl S1 (fun u2 => ?_) (fun u2 => ?_)
  · rw [if_pos u2] at he
    refine zW_mention (by omega) S1 (fun H3 mn3 hm3 S3 => ?_)
    have S3 := SS_im (by decide) hm3 S3
    have S5 := SS_pk 2 [1, 0] rfl rfl S3
    refine zW_add (by omega) (by omega) okM S5 (fun H4 c4 S4 f4 f4' => ?_)
    refine zW_pass (by omega) S4 (by have := u2; omega) (by omega) (by omega) he her (fun σ6 H6 η6 S6 p6 w6 he => ?_)
    have q6 := Qx_p p6
    have m6 := q6.2.2.1
    have d6 := dep_le q6
    have vn6 := congrArg List.length w6.2
    have vd6 := q6.1
    have S7 := SS_oL S6
    exact zW_rQ ⟨[gn 50 [[((pc σ).2.1 : Int)], (pc σ).2.2.1] []], σ6, η6, _, rfl, SS_mono S7 (by omega) (by omega), Qx_to q6 (by omega) (by omega), (Er_1 w6), he⟩
  · rw [if_neg u2] at he
    refine zW_tis 28 115 (by decide) (by omega) S1 (fun u8 => ?_) (fun u8 => ?_)
    · rw [if_pos u8] at he
      refine zW_opens (by omega) S1 (by have := u8.1; omega) (by omega) (by omega) he her (fun lt σ9 H9 η9 S9 p9 w9 he => ?_)
      have q9 : Qx t 1 1 σ σ9 := Qx_to (Qx_o p9) (by omega) (by omega)
      have m9 := q9.2.2.1
      have d9 := dep_op q9 lt
      have v9 := p9.2.1
      have vn9 := congrArg List.length w9.2
      have vd9 := q9.1
      have lz : ([] : List Gt).length = 0 := rfl
      refine y_varsLoop n Γ H9 σ9 η9 M _ _ d _ r 0 _ 0 [] (fun l σ2 => pCloses t 29 σ2 fun σ3 => fK (gl l) σ3) rfl S9 (by omega) (by omega) (by omega) (by rw [lz]; omega) (by omega) he her (fun l σ95 H95 η95 cap95 S95 n95 q95 e95 he => ?_)
      simp only [List.length_nil, List.nil_append] at S95 he
      have m95 := q95.2.2.1
      have d95 := dep_le q95
      have vd95 := q95.1
      have vn95 := Er_len e95
      have hl1 : 1 ≤ l.length := List.length_pos_iff.mpr n95
      refine zW_closes 29 117 (by decide) (by omega) (by omega) (by omega) S95 (by omega) (by omega) he her (fun _ σ10 H10 η10 S10 p10 w10 he => ?_)
      have q10 : Qx t (-1) 1 σ95 σ10 := Qx_to (Qx_o p10) (by omega) (by omega)
      have m10 := q10.2.2.1
      have v10 := p10.2.1
      have vn10 := congrArg List.length w10.2
      have vd10 := q10.1
      have S11 := SS_oL S10
      exact zW_rQ ⟨l, σ10, η10, _, rfl, SS_mono S11 (by omega) (by omega), Qx_to (Qx_t q9 (Qx_t q95 q10)) (by omega) (by omega), (Er_e (Er_o w9 e95) w10), he⟩
    · rw [if_neg u8] at he
      have S12 := SS_oL S1
      exact zW_rQ ⟨[], σ, η, _, rfl, SS_mono S12 (by omega) (by omega), Qx_to Qx_0 (by omega) (by omega), (Er_1 ⟨rfl, rfl⟩), he⟩
def gTyD (t : List Int) (R : PX) (σ : Ps) : PR := pT (pPass t σ) fun σ1 => pB (R 47 [] [] σ1) fun vs σ2 => pName t σ2 fun b σ3 => pNeed t 40 σ3 fun σ4 => pB (R 30 [] [] σ4) fun y σ5 => pR (gn 73 [[((pc σ2).2.1 : Int)], b] (y :: gs vs)) σ5
theorem y_type {n : Nat} (h30 : YCf C B X t (sP t n 30 [] []) 126 4 ho okTy) (hlen : t.length ≤ 900) : YDf C B X t (nE 25 (gTyD t (sP t n))) 160 22 ho okDc := by
  intro Γ H σ η M g h d Q r S hu hvl hg hh hd he her hk
  have d40 := dep_40 S
  have vl := SS_vl S
  have hmu := pmu_le (t := t) (σ := σ)
  obtain ⟨w, he⟩ := nE_is he
  unfold gTyD at he
  try simp only [pB_pT, pB_ite, pB_pR, pB_pWr, pB_in, pB_ass, pB_pNeed, pB_pOpens, pB_pCloses, pB_pName, pB_pAny, pB_pOpn, pB_pLab, gs_gl, cons1] at he
  refine yl_Parser_type ?_
  unfold yb_Parser_type
  refine zW_pass (by omega) S (by have := w.1; omega) (by omega) (by omega) he her (fun σ1 H1 η1 S1 p1 w1 he => ?_)
  have q1 := Qx_p p1
  have m1 := q1.2.2.1
  have d1 := dep_le q1
  have vn1 := congrArg List.length w1.2
  have vd1 := q1.1
  refine zW_vars (by omega) S1 hu (by omega) (by omega) he her (fun l2 σ2 H2 η2 ro2 S2 q2 e2 he => ?_)
  simp only [gs_gl] at he
  have m2 := q2.2.2.1
  have d2 := dep_le q2
  have vn2 := Er_len e2
  have vd2 := q2.1
  refine zW_let ?_
  refine zW_plc S2 ?_
  refine zW_let ?_
  refine zW_name (by omega) S2 (by omega) (by omega) he her (fun k3 x3 σ3 H3 η3 S3 p3 w3 he => ?_)
  have q3 := Qx_p p3
  have m3 := q3.2.2.1
  have d3 := dep_le q3
  have vn3 := congrArg List.length w3.2
  have vd3 := q3.1
  refine zW_let ?_
  refine zW_need 40 1 (by decide) (by omega) S3 (by omega) (by omega) he her (fun _ σ4 H4 η4 S4 p4 w4 he => ?_)
  have q4 := Qx_p p4
  have m4 := q4.2.2.1
  have d4 := dep_le q4
  have vn4 := congrArg List.length w4.2
  have vd4 := q4.1
  have S5 := SS_new (kd := 61) (n := 4) (p := []) S4 (by decide) trivial
  refine zW_new ?_
  rw [if_neg (show ¬ (61 : Nat) = 3 by decide)]
  refine zW_toldTy (h30) (by omega) S5 hu (by omega) (by omega) he her (fun t6 σ6 H6 η6 ro6 S6 o6 q6 e6 he => ?_)
  have m6 := q6.2.2.1
  have d6 := dep_le q6
  have vn6 := Er_len e6
  have vd6 := q6.1
  have S7 := SS_pk 4 [1, 3, 2, 0] rfl rfl S6
  refine m_TypeDec (by omega) S7 (fun H8 S8 => ?_)
  refine zW_rQ (hk (gn 73 [[((pc σ2).2.1 : Int)], (pc σ2).2.2.1] (t6 :: l2)) _ _ _ _ (Option.some.inj he).symm ?_ ?_ (Qx_to (Qx_t q1 (Qx_t q2 (Qx_t q3 (Qx_t q4 q6)))) (by omega) (by omega)) (Er_d (by decide) (Er_t (Er_e (Er_e (Er_o w1 e2) w3) w4) e6)))
  · rw [ho_73]; exact SS_mono S8 (by omega) (by omega)
  · exact ⟨(by decide : 70 ≤ 73), (by decide : 73 ≤ 77)⟩
end YVars
