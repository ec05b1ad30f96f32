set_option maxRecDepth 100000
/-! THE HOUSE'S PARSER: declarations as a list; local, let (printed by gen/dsl/p74xt.py) -/
theorem ho_77' {D E : Gt} : ho (gn 77 [] [D, E]) = oO 66 [] [oF 19800 (ho D), oF 19801 (ho E)] := by
  rw [ho_gn]; rfl
theorem ho_18a {p : Int} {D x : Gt} : ho (gn 18 [[p]] [D, gl [x]]) = oO 49 [11700, p] [oF 14701 (ho D), oF 14702 (ho x)] := by
  rw [ho_gn]
  show oO 49 [11700, p] [oF 14701 (ho D), oF 14702 (match gs (gl [x]), gs (ho (gl [x])) with | [_], [x] => x | _, l => oO 46 [] [oF 13801 (oL l)])] = _
  rw [gs_gl, ho_gl]; rfl
theorem ho_18b {p : Int} {D : Gt} {l : List Gt} (h : l.length ≠ 1) : ho (gn 18 [[p]] [D, gl l]) = oO 49 [11700, p] [oF 14701 (ho D), oF 14702 (oO 46 [] [oF 13801 (oL (l.map ho))])] := by
  rw [ho_gn]
  show oO 49 [11700, p] [oF 14701 (ho D), oF 14702 (match gs (gl l), gs (ho (gl l)) with | [_], [x] => x | _, l => oO 46 [] [oF 13801 (oL l)])] = _
  rw [gs_gl, ho_gl]
  unfold oL
  rw [gs_gn]
  match l, h with
  | [], _ => rfl
  | [_], h => exact absurd rfl h
  | _ :: _ :: _, _ => rfl
theorem Qx_F {t : List Int} {k : Int} {m : Nat} {σ σ1 : Ps} (h : Qy t k m σ σ1) : Qx t k m σ (psF σ1 (pF σ)) := ⟨h.1, rfl, h.2.2⟩
section YLet
variable {C : YC} {B P O : Nat → Prop} {X : Nat → Nat} {t : List Int} {Γ : Gm} {H H' : YS} {σ σ1 : Ps} {η η1 : Et} {M : List (Gt × Option Nat)} {g h g' h' : Int} {a e c s d dp cap : Nat} {F : List (List Int × Int × Int)} {Q : Option (Option ZV) → YS → Prop} {r : (Int × Nat) ⊕ (Gt × Ps)} {f : Ps → PR} {θ τ : Gt} {w : Option Nat} {l : List Gt} {tk : Tok} {R : PX}

theorem zW_decs {n : Nat} {kk : Option Nat → YS → ZR YS} {fG : List Gt → Ps → PR} {x : Int} {M : List (Gt × Option Nat)} (h41 : ∀ n', n' < n → YDc C B X t (sP t n' 41 [] [])) (hlen : t.length ≤ 900) (hd : dep t σ + 31 ≤ d) (S : SS C B X t Γ H σ η M g h) (hu : Γ.2.2.2.2 = 0) (hvl : (eV η).length ≤ pd σ) (hg : g ≤ 2972) (hh : h ≤ 2840) (he : pB (if tDec (pc σ) then sP t n 40 [x] [] σ else pR (gl []) σ) (fun τ σ1 => fG (gs τ) σ1) = some r) (her : ∀ e p H', r = .inl (e, p) → Th C B X t Γ H' e p → Q none H')
    (hk : ∀ l σ1 H1 η1 a, SS C B X t Γ H1 σ1 η1 ((ho (gn 63 [] l), some a) :: M) (g + 1) (h + 43) → Qy t 0 0 σ σ1 → Er η η1 l → fG l σ1 = some r → zW (kk (some a) H1) Q) : zW (zQ (ycv (YL C) d [(6, 103)] (some (X 8)) [.inl x] H) kk) Q := by
  obtain ⟨d, rfl⟩ : ∃ e, d = e + 1 := ⟨d - 1, by omega⟩
  have d40 := dep_40 S
  have hmu := pmu_le (t := t) (σ := σ)
  have lz : ([] : List Gt).length = 0 := rfl
  rw [ycv_s (SS_8 S) ⟨by decide, rfl⟩]
  refine zW_Q (P := fun v H1 => ∃ l σ1 η1 a, v = some a ∧ SS C B X t Γ H1 σ1 η1 ((ho (gn 63 [] l), some a) :: M) (g + 1) (h + 43) ∧ Qy t 0 0 σ σ1 ∧ Er η η1 l ∧ fG l σ1 = some r) (T := fun H1 => Q none H1) (zW_c (yl_Parser_decs ?_)) (fun ro H1 ⟨l, σ1, η1, a, w0, w1, w3, w4, w5⟩ => by rw [w0]; exact hk l σ1 H1 η1 a w1 w3 w4 w5) (fun _ q => q)
  unfold yb_Parser_decs
  refine zW_alnew (by omega) S (fun H1 a S1 => zW_let ?_)
  refine zW_isDcB (by omega) S1 (fun b hb => zW_let ?_)
  have S2 : SS C B X t Γ H1 σ η ((oC 0 (dsF []), some a) :: M) (g + 1) (h + 3) := S1
  rcases hb with ⟨z, rfl⟩ | ⟨z, rfl⟩
  · rw [if_pos z] at he
    refine y_decsLoop n h41 Γ H1 σ η M _ _ d _ r 0 a x [] (fun l σ2 => fG l σ2) S2 hu hvl (by omega) (by omega) (by omega) (by rw [lz]; omega) (by omega) z he (fun e p H' w T => her e p H' w T) (fun l σ2 H2 η2 c2 S3 n2 q2 e2 he => ?_)
    simp only [List.length_nil, List.nil_append] at S3 he
    have hl1 : 1 ≤ l.length := List.length_pos_iff.mpr n2
    refine ⟨l, σ2, η2, a, rfl, ?_, Qy_to q2 (by omega) (by omega), e2, he⟩
    rw [ho_63]
    exact SS_mono (SS_oL S3) (by omega) (by omega)
  · rw [if_neg z] at he
    refine yl_Parser_decs_p16 ?_
    unfold yb_Parser_decs_p16
    refine zW_t rfl (zW_rQ ⟨[], σ, η, a, rfl, ?_, Qy_x Qx_0, Er_1 ⟨rfl, rfl⟩, he⟩)
    rw [ho_63]
    exact SS_mono (SS_oL S2) (by omega) (by omega)
theorem y_local {n : Nat} (h41 : ∀ n', n' < n → YDc C B X t (sP t n' 41 [] [])) (hlen : t.length ≤ 900) : YDf C B X t (nE 17 (gLoc t (sP t n))) 165 3 ho okDc := by
  intro Γ H σ η M g h d Q r S hu hvl hg hh hd he her hk
  have d40 := dep_40 S
  have vl := SS_vl S
  obtain ⟨w, he⟩ := nE_is he
  unfold gLoc at he
  refine yl_Parser_local ?_
  unfold yb_Parser_local
  refine zW_opens (by omega) S (by have := w.1; omega) (by omega) (by omega) he her (fun lt σ1 H1 η1 S1 p1 w1 he => ?_)
  have q1 : Qx t 1 1 σ σ1 := Qx_to (Qx_o p1) (by omega) (by omega)
  have m1 := q1.2.2.1
  have d1 := dep_op q1 lt
  have v1 := p1.2.1
  have vn1 := congrArg List.length w1.2
  have vd1 := q1.1
  refine zW_fsize (by omega) S1 ?_
  rw [show pF σ1 = pF σ from q1.2.1]
  refine zW_let ?_
  refine zW_decs (fG := fun l σ2 => pNeed t 13 σ2 fun σ3 => pB (gDecs0 (sP t n) σ3) fun b σ4 => pCloses t 7 σ4 fun σ5 => pR (gn 77 [] [gn 63 [] l, gn 63 [] (gs b)]) (psF σ5 (pF σ))) (x := 0) h41 hlen (by omega) S1 hu (by omega) (by omega) (by omega) he her (fun l2 σ2 H2 η2 a2 S2 q2 e2 he => ?_)
  have m2 := q2.2.2.1
  have d2 := dep_y q2
  have vn2 := Er_len e2
  have vd2 := q2.1
  refine zW_let ?_
  refine zW_need 13 141 (by decide) (by omega) S2 (by omega) (by omega) he her (fun _ σ3 H3 η3 S3 p3 w3 he => ?_)
  have q3 := Qx_p p3
  have m3 := q3.2.2.1
  have d3 := dep_le q3
  have vn3 := congrArg List.length w3.2
  have vd3 := q3.1
  refine zW_decs (fG := fun b σ4 => pCloses t 7 σ4 fun σ5 => pR (gn 77 [] [gn 63 [] l2, gn 63 [] b]) (psF σ5 (pF σ))) (x := 0) h41 hlen (by omega) S3 hu (by omega) (by omega) (by omega) he her (fun l4 σ4 H4 η4 a4 S4 q4 e4 he => ?_)
  have m4 := q4.2.2.1
  have d4 := dep_y q4
  have vn4 := Er_len e4
  have vd4 := q4.1
  refine zW_let ?_
  refine zW_closes 7 142 (by decide) (by omega) (by omega) (by omega) S4 (by omega) (by omega) he her (fun _ σ5 H5 η5 S5 p5 w5 he => ?_)
  have q5 : Qx t (-1) 1 σ4 σ5 := Qx_to (Qx_o p5) (by omega) (by omega)
  have m5 := q5.2.2.1
  have v5 := p5.2.1
  have vn5 := congrArg List.length w5.2
  have vd5 := q5.1
  obtain ⟨G6, hG6⟩ := (Qy_t (Qy_x q1) (Qy_t q2 (Qy_t (Qy_x q3) (Qy_t q4 (Qy_x q5))))).2.1
  refine zW_drop (by omega) hG6 S5 (fun H6 η6 S6 w6 => ?_)
  have S7 := SS_new (kd := 66) (n := 2) (p := []) S6 (by decide) trivial
  refine zW_new ?_
  rw [if_neg (show ¬ (66 : Nat) = 3 by decide)]
  have S8 := SS_pk 3 [0, 2, 1] rfl rfl S7
  refine m_LocalDec (by omega) S8 (fun H9 S9 => ?_)
  refine zW_rQ (hk (gn 77 [] [gn 63 [] l2, gn 63 [] l4]) (psF σ5 (pF σ)) H9 η6 _ (Option.some.inj he).symm ?_ ?_ (Qx_to (Qx_F (Qy_t (Qy_x q1) (Qy_t q2 (Qy_t (Qy_x q3) (Qy_t q4 (Qy_x q5)))))) (by omega) (by omega)) (Er_n (by decide) (Er_e (Er_t (Er_e (Er_o w1 (Er_n (k := 63) (p := []) (by decide) e2)) w3) (Er_n (k := 63) (p := []) (by decide) e4)) ⟨w6.1.trans w5.1, w6.2.trans w5.2⟩)))
  · rw [ho_77']; exact SS_mono S9 (by omega) (by omega)
  · exact ⟨(by decide : 70 ≤ 77), (by decide : 77 ≤ 77)⟩
noncomputable abbrev kLet (C : YC) (X : Nat → Nat) (p n : Int) (dl d a : Nat) (H : YS) : ZR YS := zV (ycv (YL C) d [(6, 118)] (some (X 8)) [.inr (.inr (some (C.1 142)))] H) fun h7 =>
    zV (ycv (YL C) d [(6, 155)] (some (X 8)) [.inl n] h7) fun h8 =>
    ynew 49 3 h8 fun r9 h10 =>
    zI (ycv (YL C) d [(5, 506)] (some a) [] h10) fun v12 h11 =>
    if v12 = 1 then
      zQ (ycv (YL C) d [(5, 528)] (some a) [.inl 0] h11) fun v14 h13 =>
      ycc 10 639 v14 h13 <|
      zV (ycs (YL C) d 418 r9 [.inl p, .inr (.inr (some dl)), .inr (.inr v14)] h13) fun h15 =>
      zrQ r9 h15
    else
    ynew 46 2 h11 fun r16 h17 =>
    zV (ycs (YL C) d 407 r16 [.inl p, .inr (.inr (some a))] h17) fun h18 =>
    zV (ycs (YL C) d 418 r9 [.inl p, .inr (.inr (some dl)), .inr (.inr r16)] h18) fun h19 =>
    zrQ r9 h19
theorem len1 {l : List Gt} (h : ((l.map ho).length : Int) = 1) : ∃ x, l = [x] := by
  rw [List.length_map] at h
  match l, h with
  | [x], _ => exact ⟨x, rfl⟩
  | _ :: _ :: l, h => rw [List.length_cons, List.length_cons] at h; omega
theorem y_let {n : Nat} (hel : ∀ n', n' ≤ n → YCf C B X t (sP t n' 0 [] []) 140 10 ho okEx) (h41 : ∀ n', n' < n → YDc C B X t (sP t n' 41 [] [])) (hlen : t.length ≤ 900) : YCf C B X t (nE 16 (gLet t (sP t n))) 154 3 ho okEx := by
  intro Γ H σ η M g h d Q r S hu hg hh hd he her hk
  have d40 := dep_40 S
  have vl := SS_vl S
  obtain ⟨w, he⟩ := nE_is he
  have hmu := pmu_le (t := t) (σ := σ)
  unfold gLet at he
  refine yl_Parser_let ?_
  unfold yb_Parser_let
  refine zW_opens (by omega) S (by have := w.1; omega) (by omega) (by omega) he her (fun lt σ1 H1 η1 S1 p1 w1 he => ?_)
  have q1 : Qx t 1 1 σ σ1 := Qx_to (Qx_o p1) (by omega) (by omega)
  have m1 := q1.2.2.1
  have d1 := dep_op q1 lt
  have v1 := p1.2.1
  have vn1 := congrArg List.length w1.2
  have vd1 := q1.1
  refine zW_let ?_
  refine zW_fsize (by omega) S1 ?_
  rw [show pF σ1 = pF σ from q1.2.1]
  refine zW_let ?_
  refine zW_decs (fG := fun l σ2 => pNeed t 13 σ2 fun σ3 => pB (sP t n 0 [] [] σ3) fun e σ4 => pB (sP t n 14 [35, 0] [] σ4) fun l2 σ5 => pCloses t 7 σ5 fun σ6 => pR (gn 18 [[((pc σ).2.1 : Int)]] [gn 63 [] l, gl (e :: gs l2)]) (psF σ6 (pF σ))) (x := 0) h41 hlen (by omega) S1 hu (by omega) (by omega) (by omega) he her (fun l2 σ2 H2 η2 a2 S2 q2 e2 he => ?_)
  have m2 := q2.2.2.1
  have d2 := dep_y q2
  have vn2 := Er_len e2
  have vd2 := q2.1
  refine zW_let ?_
  refine zW_need 13 141 (by decide) (by omega) S2 (by omega) (by omega) he her (fun _ σ3 H3 η3 S3 p3 w3 he => ?_)
  have q3 := Qx_p p3
  have m3 := q3.2.2.1
  have d3 := dep_le q3
  have vn3 := congrArg List.length w3.2
  have vd3 := q3.1
  refine zW_alnew (by omega) S3 (fun H4 l4 S4 => ?_)
  refine zW_let ?_
  have he : pB (sP t n 0 [] [] σ3) (fun x σ1 => pB (sP t n 14 [((35 : Nat) : Int), ((0 : Nat) : Int)] [] σ1) fun l σ2 => (fun l σ2 => pCloses t 7 σ2 fun σ3 => pR (gn 18 [[((pc σ).2.1 : Int)]] [gn 63 [] l2, gl l]) (psF σ3 (pF σ))) ([] ++ x :: gs l) σ2) = some r := he
  have S90 : SS C B X t Γ H4 σ3 η3 ((oC 0 (([] : List Gt).map ho), some l4) :: _) _ _ := S4
  refine y_sep (k := 0) (mth := 140) (lev := 10) (im := ho) (ok := okEx) (P := fun τ => (3 ≤ gk τ ∧ gk τ ≤ 20) ∨ (90 ≤ gk τ ∧ gk τ ≤ 92)) (fun _ _ o => ⟨okX_G o, o⟩) 35 140 (by decide) 607 (fun a => [.inl ((pc σ).2.1 : Int), .inl ((pF σ).length : Int), zr a2, zr a]) (fun d a H => kLet C X ((pc σ).2.1 : Int) ((pF σ).length : Int) a2 d a H) (fun d H a Q hq => yl_Parser_let_p35 hq) n hel Γ H4 σ3 η3 _ _ _ d Q r _ _ [] (fun l σ2 => pCloses t 7 σ2 fun σ3 => pR (gn 18 [[((pc σ).2.1 : Int)]] [gn 63 [] l2, gl l]) (psF σ3 (pF σ))) S90 hu (by omega) (by show _ + 8 * 0 ≤ _; omega) (by omega) (by show 0 + _ ≤ _; omega) (by omega) he her (fun l5 σ5 H5 η5 c5 S5 n5 P5 q5 e5 z5 he => ?_)
  simp only [List.length_nil, List.nil_append] at S5 z5
  try simp only [List.nil_append] at he
  have m5 := q5.2.2.1
  have d5 := dep_le q5
  have vn5 := Er_len e5
  have vd5 := q5.1
  have g5 : 1 ≤ l5.length := List.length_pos_iff.mpr n5
  refine zW_closes 7 142 (by decide) (by omega) (by omega) (by omega) S5 (by omega) (by omega) he her (fun _ σ6 H6 η6 S6 p6 w6 he => ?_)
  have q6 : Qx t (-1) 1 σ5 σ6 := Qx_to (Qx_o p6) (by omega) (by omega)
  have m6 := q6.2.2.1
  have v6 := p6.2.1
  have vn6 := congrArg List.length w6.2
  have vd6 := q6.1
  obtain ⟨G7, hG7⟩ := (Qy_t (Qy_x q1) (Qy_t q2 (Qy_t (Qy_x q3) (Qy_t (Qy_x q5) (Qy_x q6))))).2.1
  refine zW_drop (by omega) hG7 S6 (fun H7 η7 S7 w7 => ?_)
  have S8 := SS_new (kd := 49) (n := 3) (p := []) S7 (by decide) trivial
  refine zW_new ?_
  rw [if_neg (show ¬ (49 : Nat) = 3 by decide)]
  have S9 := SS_pk 2 [1, 0] rfl rfl S8
  refine zW_size (by omega) S9 ?_
  refine zW_if (fun y => ?_) (fun y => ?_)
  · obtain ⟨x9, hx9⟩ := len1 y
    have ok9 := P5 x9 (by rw [hx9]; exact List.mem_singleton.mpr rfl)
    have S10 := SS_eq0 (show l5.map ho = [ho x9] by rw [hx9]; rfl) S9
    refine zW_only (by omega) S10 (fun w10 S510 _ => ?_)
    obtain ⟨y10, kd9, i9, fs9, rfl, k9, -, -, c9, -⟩ := SS_X0 ok9 S510
    refine zW_cc k9 (cc_X c9) ?_
    have S11 := SS_pk 3 [1, 2, 0] rfl rfl S510
    refine m_Let (by omega) S11 (fun H12 S12 => ?_)
    refine zW_rQ (hk (gn 18 [[((pc σ).2.1 : Int)]] [gn 63 [] l2, gl l5]) (psF σ6 (pF σ)) H12 η7 _ (Option.some.inj he).symm ?_ ?_ (Qx_to (Qx_F (Qy_t (Qy_x q1) (Qy_t q2 (Qy_t (Qy_x q3) (Qy_t (Qy_x q5) (Qy_x q6)))))) (by omega) (by omega)) (Er_n (by decide) (Er_e (Er_t (Er_e (Er_o w1 (Er_n (k := 63) (p := []) (by decide) e2)) w3) (Er_n (k := 0) (p := []) (by decide) e5)) ⟨w7.1.trans w6.1, w7.2.trans w6.2⟩)))
    · rw [hx9, ho_18a]; exact SS_mono S12 (by omega) (by omega)
    · exact Or.inl ⟨(by decide : 3 ≤ 18), (by decide : 18 ≤ 20)⟩
  · have S13 := SS_new (kd := 46) (n := 2) (p := []) S9 (by decide) trivial
    refine zW_new ?_
    rw [if_neg (show ¬ (46 : Nat) = 3 by decide)]
    have S14 := SS_pk 2 [1, 0] rfl rfl S13
    have S15 := SS_oL S14
    have S16 := SS_pk 2 [1, 0] rfl rfl S15
    refine m_Sequence (by omega) S16 (fun H17 S17 => ?_)
    have S18 := SS_wk (p' := []) (by decide) (fun _ => trivial) S17
    have S19 := SS_pk 3 [1, 2, 0] rfl rfl S18
    refine m_Let (by omega) S19 (fun H20 S20 => ?_)
    refine zW_rQ (hk (gn 18 [[((pc σ).2.1 : Int)]] [gn 63 [] l2, gl l5]) (psF σ6 (pF σ)) H20 η7 _ (Option.some.inj he).symm ?_ ?_ (Qx_to (Qx_F (Qy_t (Qy_x q1) (Qy_t q2 (Qy_t (Qy_x q3) (Qy_t (Qy_x q5) (Qy_x q6)))))) (by omega) (by omega)) (Er_n (by decide) (Er_e (Er_t (Er_e (Er_o w1 (Er_n (k := 63) (p := []) (by decide) e2)) w3) (Er_n (k := 0) (p := []) (by decide) e5)) ⟨w7.1.trans w6.1, w7.2.trans w6.2⟩)))
    · rw [ho_18b (fun z => y (by rw [List.length_map]; omega))]; exact SS_mono S20 (by omega) (by omega)
    · exact Or.inl ⟨(by decide : 3 ≤ 18), (by decide : 18 ≤ 20)⟩
end YLet
