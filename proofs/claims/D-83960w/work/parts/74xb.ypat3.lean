set_option maxRecDepth 100000
/-! THE HOUSE'S PARSER: patterns with types and with names before them (printed by gen/dsl/p74xb.py) -/
abbrev okB38 : Int → Gt → Prop := fun _ τ => gk τ = 38
theorem okB38_P {σ : Ps} {τ : Gt} (h : gk τ = 38) : okPa σ τ := ⟨by rw [h]; exact ⟨by decide, by decide⟩, fun q => by rw [h] at q; cases q⟩
theorem ho_31' {τ : Gt} (h : gk τ = 31) : ho τ = oO 33 [7500, gbg τ, 9902, hq (gp τ) 1, 9903, hq (gp τ) 2] [oF 9901 (oS (hnm (gp τ)))] := by
  cases τ with
  | leaf p => cases h
  | branch k l r =>
    have h : k = 31 := h
    subst h
    rw [ho_br]; rfl
theorem ho_38 {p : Int} {a b : Gt} : ho (gn 38 [[p]] [a, b]) = oO 34 [7500, p] [oF 10201 (ho a), oF 10202 (ho b)] := by rw [ho_gn]; rfl
theorem gmn_31 {c : Bool} {τ : Gt} (h : gk τ = 31) (hs : gs τ = []) : gmn c τ = [] := by
  cases τ with
  | leaf p => cases h
  | branch k l r =>
    have h : k = 31 := h
    subst h
    rw [gmn_br, gmn_tr (by decide), show gsp r = [] from hs]; rfl
theorem gms_as {c : Bool} {p : List (List Int)} {τ x : Gt} {l : List Gt} (h : gk τ = 31) (hs : gs τ = []) : gms c (τ :: l) = gms c l := by
  show gmn c τ ++ gms c l = _
  rw [gmn_31 h hs]; rfl
theorem gms_37 {c : Bool} {p : List (List Int)} {s : List Gt} : gms c [gn 37 p s] = gms c s.reverse := by rw [gms_1, gmn_37]
section YPat3
variable {C : YC} {B P O : Nat → Prop} {X : Nat → Nat} {t : List Int} {Γ : Gm} {H H' : YS} {σ σ1 : Ps} {η η1 : Et} {M : List (Gt × Option Nat)} {g h g' h' : Int} {a e c s d dp cap : Nat} {F : List (List Int × Int × Int)} {Q : Option (Option ZV) → YS → Prop} {r : (Int × Nat) ⊕ (Gt × Ps)} {f : Ps → PR} {θ τ : Gt} {w : Option Nat} {l : List Gt} {tk : Tok} {R : PX}
theorem y_patLoop (h30 : YCf C B X t (R 30 [] []) 126 4 ho okTy) (hL : YLo C B X t (fun a => R 21 [] [a]) 10 1019 okB38) : YLo C B X t (fun a => gPatR t R a) 10 1019 okB38 := by
  intro Γ H σ η M g h d Q r a ra b S hu hg hh hd ok he her hk
  have d40 := dep_40 S
  have vl := SS_vl S
  have ok : gk a = 38 := ok
  have okr : 30 ≤ gk a ∧ gk a ≤ 41 := by omega
  have he : gPatR t R a σ = some r := he
  unfold gPatR at he
  refine yl_Parser_pat_p196 ?_
  unfold yb_Parser_pat_p196
  refine zW_takes 38 122 (by decide) (by omega) S (by omega) (by omega) he her (fun u1 he => ?_) (fun u1 σ1 H1 η1 S1 p1 w1 he => ?_)
  · exact zW_rQ (hk a σ H η ra [] (Option.some.inj he).symm S ok Qx_0 (Er_1 ⟨rfl, rfl⟩) (fun c => (List.append_nil _).symm))
  · have q1 := Qx_p p1
    have m1 := q1.2.2.1
    have d1 := dep_le q1
    have vn1 := congrArg List.length w1.2
    have vd1 := q1.1
    have S2 := SS_new (kd := 34) (n := 3) (p := []) S1 (by decide) trivial
    refine zW_new ?_
    rw [if_neg (show ¬ (34 : Nat) = 3 by decide)]
    refine zW_sub h30 (by omega) S2 (Or.inl hu) (by omega) (by omega) he her (fun t3 σ3 H3 η3 ro3 S3 o3 q3 e3 he => ?_)
    have m3 := q3.2.2.1
    have d3 := dep_le q3
    have vn3 := Er_len e3
    have vd3 := q3.1
    have S4 := SS_pk 3 [2, 0, 1] rfl rfl S3
    obtain ⟨y5, rfl, hb5⟩ := SS_bgP okr S4
    have S6 := SS_pk 3 [2, 0, 1] rfl rfl S4
    refine m_TypedPat hb5 (by omega) S6 (fun H7 S7 => ?_)
    refine zW_let ?_
    have S90 := S7
    rw [← ho_38] at S90
    refine hL Γ H7 σ3 η3 M _ _ d Q r _ _ b S90 hu (by omega) (by omega) (by omega) rfl he her (fun τ σ9 H9 η9 ro9 l e9 S9 o9 q9 er9 g9 => hk τ σ9 H9 η9 ro9 (t3 :: l) e9 (SS_mono S9 (by omega) (by omega)) o9 (Qx_to (Qx_t (Qx_t q1 q3) q9) (by omega) (by omega)) (Er_t (Er_o w1 e3) er9) (fun c => ?_))
    rw [g9 c, gmn_tr (by decide), gms_2, List.append_assoc]; rfl
theorem y_pat (h9 : YCf C B X t (R 9 [1] []) 111 9 ho okPa) (h30 : YCf C B X t (R 30 [] []) 126 4 ho okTy) (h20 : YCf C B X t (R 20 [] []) 109 10 ho okPa) (hL : YLo C B X t (fun a => R 21 [] [a]) 10 1019 okB38) : YCf C B X t (gPat t R) 109 10 ho okPa := by
  intro Γ H σ η M g h d Q r S hu hg hh hd he her hk
  have d40 := dep_40 S
  have vl := SS_vl S
  unfold gPat at he
  try simp only [pB_pT, pB_ite, pB_pR, pB_pWr, pB_in, pB_ass, pB_pNeed, pB_pOpens, pB_pCloses, pB_pName, pB_pAny, pB_pOpn, pB_pLab, gs_gl, cons1] at he
  have key : ∀ (b : Int), (b = 1 ∧ tNf (pF σ) (pc σ)) ∨ (b = 0 ∧ ¬ tNf (pF σ) (pc σ)) → zW (YL C d 565 [zr (X 8), .inl ((pc σ).2.1 : Int), .inl b] H) Q := by
    intro b hb
    refine yl_Parser_pat_p47 ?_
    unfold yb_Parser_pat_p47
    refine zW_let ?_
    refine zW_sub h9 (by omega) S hu (by omega) (by omega) he her (fun t1 σ1 H1 η1 ro1 S1 o1 q1 e1 he => ?_)
    have m1 := q1.2.2.1
    have d1 := dep_le q1
    have vn1 := Er_len e1
    have vd1 := q1.1
    refine zW_let ?_
    refine zW_tis 38 122 (by decide) (by omega) S1 (fun u2 => ?_) (fun u2 => ?_)
    · skip
      refine yl_Parser_pat_p81 ?_
      unfold yb_Parser_pat_p81
      refine zW_if (fun hb0 => ?_) (fun hb0 => ?_)
      · have hnf : ¬ tNf (pF σ) (pc σ) := hb.elim (fun z => absurd (z.1.symm.trans hb0) (by decide)) (fun z => z.2)
        refine yl_Parser_pat_p104 ?_
        unfold yb_Parser_pat_p104
        refine zW_let ?_
        refine zW_n0 ?_
        refine zW_tis 2 125 (by decide) (by omega) S1 (fun u3 => (tIs_ne (by decide) u2 u3).elim) (fun u3 => ?_)
        refine yl_Parser_pat_p126 ?_
        unfold yb_Parser_pat_p126
        refine zW_let ?_
        refine zW_takes 38 122 (by decide) (by omega) S1 (by omega) (by omega) he her (fun u4 => absurd u2 u4) (fun u4 σ4 H4 η4 S4 p4 w4 he => ?_)
        have q4 := Qx_p p4
        have m4 := q4.2.2.1
        have d4 := dep_le q4
        have vn4 := congrArg List.length w4.2
        have vd4 := q4.1
        refine zW_sub h30 (by omega) S4 (Or.inl hu) (by omega) (by omega) he her (fun t5 σ5 H5 η5 ro5 S5 o5 q5 e5 he => ?_)
        have m5 := q5.2.2.1
        have d5 := dep_le q5
        have vn5 := Er_len e5
        have vd5 := q5.1
        refine zW_let ?_
        refine yl_Parser_pat_p145 ?_
        unfold yb_Parser_pat_p145
        refine zW_n0 ?_
        have S6 := SS_new (kd := 34) (n := 3) (p := []) S5 (by decide) trivial
        refine zW_new ?_
        rw [if_neg (show ¬ (34 : Nat) = 3 by decide)]
        have S7 := SS_pk 3 [2, 0, 1] rfl rfl S6
        obtain ⟨y8, rfl, hb8⟩ := SS_bgP o1.1 S7
        have S9 := SS_pk 3 [1, 0, 2] rfl rfl S7
        refine m_TypedPat hb8 (by omega) S9 (fun H10 S10 => ?_)
        refine zW_let ?_
        rw [if_neg (fun z => hnf z.1.1)] at he
        have S90 := S10
        rw [← ho_38] at S90
        refine hL Γ H10 σ5 η5 M _ _ d Q r _ _ 0 S90 hu (by omega) (by omega) (by omega) rfl he her (fun τ σ9 H9 η9 ro9 l e9 S9 o9 q9 er9 g9 => hk τ σ9 H9 η9 ro9 e9 (SS_mono S9 (by omega) (by omega)) (okB38_P o9) (Qx_to (Qx_t (Qx_t q1 (Qx_t q4 q5)) q9) (by omega) (by omega)) (Er_c ?_ ?_ (Er_t (Er_t (Er_e e1 w4) e5) er9)))
        · rw [gms_1, g9, gmn_tr (by decide), gms_app]; rfl
        · rw [gms_1, g9, gmn_tr (by decide), gms_app]; rfl
      · have hnf : tNf (pF σ) (pc σ) := hb.elim (fun z => z.2) (fun z => absurd z.1 hb0)
        obtain ⟨y1, kd, i1, fs1, rfl, k1, -, -, k2, k31, -⟩ := SS_P0 o1.1 S1
        refine zW_io k1 (io_P k2) ?_
        refine zW_if (fun h0 => ?_) (fun h0 => ?_)
        · have n31 : gk t1 ≠ 31 := fun z => by rw [if_pos (k31.mp z)] at h0; cases h0
          refine yl_Parser_pat_p104 ?_
          unfold yb_Parser_pat_p104
          refine zW_let ?_
          refine zW_n0 ?_
          refine zW_tis 2 125 (by decide) (by omega) S1 (fun u11 => (tIs_ne (by decide) u2 u11).elim) (fun u11 => ?_)
          refine yl_Parser_pat_p126 ?_
          unfold yb_Parser_pat_p126
          refine zW_let ?_
          refine zW_takes 38 122 (by decide) (by omega) S1 (by omega) (by omega) he her (fun u12 => absurd u2 u12) (fun u12 σ12 H12 η12 S12 p12 w12 he => ?_)
          have q12 := Qx_p p12
          have m12 := q12.2.2.1
          have d12 := dep_le q12
          have vn12 := congrArg List.length w12.2
          have vd12 := q12.1
          refine zW_sub h30 (by omega) S12 (Or.inl hu) (by omega) (by omega) he her (fun t13 σ13 H13 η13 ro13 S13 o13 q13 e13 he => ?_)
          have m13 := q13.2.2.1
          have d13 := dep_le q13
          have vn13 := Er_len e13
          have vd13 := q13.1
          refine zW_let ?_
          refine yl_Parser_pat_p145 ?_
          unfold yb_Parser_pat_p145
          refine zW_n0 ?_
          have S14 := SS_new (kd := 34) (n := 3) (p := []) S13 (by decide) trivial
          refine zW_new ?_
          rw [if_neg (show ¬ (34 : Nat) = 3 by decide)]
          have S15 := SS_pk 3 [2, 0, 1] rfl rfl S14
          obtain ⟨y16, ey16, hb16⟩ := SS_bgP o1.1 S15
          rw [← Option.some.inj ey16] at hb16
          have S17 := SS_pk 3 [1, 0, 2] rfl rfl S15
          refine m_TypedPat hb16 (by omega) S17 (fun H18 S18 => ?_)
          refine zW_let ?_
          rw [if_neg (fun z => n31 z.1.2)] at he
          have S90 := S18
          rw [← ho_38] at S90
          refine hL Γ H18 σ13 η13 M _ _ d Q r _ _ 0 S90 hu (by omega) (by omega) (by omega) rfl he her (fun τ σ9 H9 η9 ro9 l e9 S9 o9 q9 er9 g9 => hk τ σ9 H9 η9 ro9 e9 (SS_mono S9 (by omega) (by omega)) (okB38_P o9) (Qx_to (Qx_t (Qx_t q1 (Qx_t q12 q13)) q9) (by omega) (by omega)) (Er_c ?_ ?_ (Er_t (Er_t (Er_e e1 w12) e13) er9)))
          · rw [gms_1, g9, gmn_tr (by decide), gms_app]; rfl
          · rw [gms_1, g9, gmn_tr (by decide), gms_app]; rfl
        · have h33 : kd = 33 := by
            by_cases z : kd = 33
            · exact z
            · exact absurd (if_neg z) h0
          have g31 : gk t1 = 31 := k31.mpr h33
          have hz := o1.2 g31
          refine zW_cc k1 (by rw [h33]; decide +kernel) ?_
          have S80 := S1
          rw [ho_31' g31] at S80
          refine zW_let ?_
          refine yl_Parser_pat_p104 ?_
          unfold yb_Parser_pat_p104
          refine zW_let ?_
          refine zW_nn ?_
          refine yl_Parser_pat_p126 ?_
          unfold yb_Parser_pat_p126
          refine zW_let ?_
          refine zW_takes 38 122 (by decide) (by omega) S80 (by omega) (by omega) he her (fun u19 => absurd u2 u19) (fun u19 σ19 H19 η19 S19 p19 w19 he => ?_)
          have q19 := Qx_p p19
          have m19 := q19.2.2.1
          have d19 := dep_le q19
          have vn19 := congrArg List.length w19.2
          have vd19 := q19.1
          refine zW_sub h30 (by omega) S19 (Or.inl hu) (by omega) (by omega) he her (fun t20 σ20 H20 η20 ro20 S20 o20 q20 e20 he => ?_)
          have m20 := q20.2.2.1
          have d20 := dep_le q20
          have vn20 := Er_len e20
          have vd20 := q20.1
          refine zW_let ?_
          refine yl_Parser_pat_p145 ?_
          unfold yb_Parser_pat_p145
          refine zW_nn ?_
          simp only [show (tNf (pF σ) (pc σ) ∧ gk t1 = 31) = True from eq_true ⟨hnf, g31⟩, true_and] at he
          refine zW_takes 2 125 (by decide) (by omega) S20 (by omega) (by omega) he her (fun u21 he => ?_) (fun u21 σ21 H21 η21 S21 p21 w21 he => ?_)
          · rw [← ho_31' g31] at S20
            have S22 := SS_new (kd := 34) (n := 3) (p := []) S20 (by decide) trivial
            refine zW_new ?_
            rw [if_neg (show ¬ (34 : Nat) = 3 by decide)]
            have S23 := SS_pk 3 [2, 0, 1] rfl rfl S22
            obtain ⟨y24, ey24, hb24⟩ := SS_bgP o1.1 S23
            rw [← Option.some.inj ey24] at hb24
            have S25 := SS_pk 3 [1, 0, 2] rfl rfl S23
            refine m_TypedPat hb24 (by omega) S25 (fun H26 S26 => ?_)
            refine zW_let ?_
            have S90 := S26
            rw [← ho_38] at S90
            refine hL Γ H26 σ20 η20 M _ _ d Q r _ _ 0 S90 hu (by omega) (by omega) (by omega) rfl he her (fun τ σ9 H9 η9 ro9 l e9 S9 o9 q9 er9 g9 => hk τ σ9 H9 η9 ro9 e9 (SS_mono S9 (by omega) (by omega)) (okB38_P o9) (Qx_to (Qx_t (Qx_t q1 (Qx_t q19 q20)) q9) (by omega) (by omega)) (Er_c ?_ ?_ (Er_t (Er_t (Er_e e1 w19) e20) er9)))
            · rw [gms_1, g9, gmn_tr (by decide), gms_app]; rfl
            · rw [gms_1, g9, gmn_tr (by decide), gms_app]; rfl
          · have q21 := Qx_p p21
            have m21 := q21.2.2.1
            have d21 := dep_le q21
            have vn21 := congrArg List.length w21.2
            have vd21 := q21.1
            have S27 := SS_new (kd := 32) (n := 6) (p := []) S21 (by decide) trivial
            refine zW_new ?_
            rw [if_neg (show ¬ (32 : Nat) = 3 by decide)]
            refine zW_nm1 (SS_up 2 S27 rfl) (fun x28 S28 => ?_)
            refine zW_nm2 (SS_up 1 S28 rfl) ?_
            refine zW_sub h20 (by omega) S28 hu (by omega) (by omega) he her (fun t29 σ29 H29 η29 ro29 S29 o29 q29 e29 he => ?_)
            have m29 := q29.2.2.1
            have d29 := dep_le q29
            have vn29 := Er_len e29
            have vd29 := q29.1
            have S30 := SS_pk 5 [3, 1, 4, 0, 2] rfl rfl S29
            refine m_AsPat (by omega) S30 (fun H31 S31 => ?_)
            have S32 := SS_pk 2 [1, 0] rfl rfl S31
            have S33 := SS_drop S32
            refine zW_rQ (hk (gn 37 [[gbg t1, ((gp t1).getD 0 []).getD 1 0], (gp t1).getD 1 []] [t29, t20]) _ _ _ _ (Option.some.inj he).symm ?_ ⟨⟨(by decide : 30 ≤ 37), (by decide : 37 ≤ 41)⟩, fun q => by cases q⟩ (Qx_to (Qx_t q1 (Qx_t q19 (Qx_t q20 (Qx_t q21 q29)))) (by omega) (by omega)) (Er_c ?_ ?_ (Er_t (Er_e (Er_t (Er_e e1 w19) e20) w21) e29)))
            · rw [ho_gn]
              have S99 := SS_mono S33 (g' := g - 10) (h' := h - 60) (by omega) (by omega)
              rw [← hz.2] at S99
              exact S99
            · rw [gms_37]; exact gms_as (p := []) (x := t1) g31 hz.1
            · rw [gms_37]; exact gms_as (p := []) (x := t1) g31 hz.1
    · skip
      refine zW_tis 2 125 (by decide) (by omega) S1 (fun u34 => ?_) (fun u34 => ?_)
      · skip
        refine yl_Parser_pat_p81 ?_
        unfold yb_Parser_pat_p81
        refine zW_if (fun hb0 => ?_) (fun hb0 => ?_)
        · have hnf : ¬ tNf (pF σ) (pc σ) := hb.elim (fun z => absurd (z.1.symm.trans hb0) (by decide)) (fun z => z.2)
          rw [if_neg u2, if_neg (fun z => hnf z.1.1)] at he
          refine yl_Parser_pat_p104 ?_
          unfold yb_Parser_pat_p104
          refine zW_let ?_
          refine zW_n0 ?_
          refine zW_tis 2 125 (by decide) (by omega) S1 (fun u35 => ?_) (fun u35 => absurd u34 u35)
          exact zW_rQ (hk _ _ _ _ _ (Option.some.inj he).symm (SS_mono S1 (by omega) (by omega)) o1 (Qx_to q1 (by omega) (by omega)) e1)
        · have hnf : tNf (pF σ) (pc σ) := hb.elim (fun z => z.2) (fun z => absurd z.1 hb0)
          obtain ⟨y1, kd, i1, fs1, rfl, k1, -, -, k2, k31, -⟩ := SS_P0 o1.1 S1
          refine zW_io k1 (io_P k2) ?_
          refine zW_if (fun h0 => ?_) (fun h0 => ?_)
          · have n31 : gk t1 ≠ 31 := fun z => by rw [if_pos (k31.mp z)] at h0; cases h0
            rw [if_neg u2, if_neg (fun z => n31 z.1.2)] at he
            refine yl_Parser_pat_p104 ?_
            unfold yb_Parser_pat_p104
            refine zW_let ?_
            refine zW_n0 ?_
            refine zW_tis 2 125 (by decide) (by omega) S1 (fun u36 => ?_) (fun u36 => absurd u34 u36)
            exact zW_rQ (hk _ _ _ _ _ (Option.some.inj he).symm (SS_mono S1 (by omega) (by omega)) o1 (Qx_to q1 (by omega) (by omega)) e1)
          · have h33 : kd = 33 := by
              by_cases z : kd = 33
              · exact z
              · exact absurd (if_neg z) h0
            have g31 : gk t1 = 31 := k31.mpr h33
            have hz := o1.2 g31
            refine zW_cc k1 (by rw [h33]; decide +kernel) ?_
            have S80 := S1
            rw [ho_31' g31] at S80
            refine zW_let ?_
            refine yl_Parser_pat_p104 ?_
            unfold yb_Parser_pat_p104
            refine zW_let ?_
            refine zW_nn ?_
            refine yl_Parser_pat_p126 ?_
            unfold yb_Parser_pat_p126
            refine zW_let ?_
            refine zW_takes 38 122 (by decide) (by omega) S80 (by omega) (by omega) he her (fun u37 he => ?_) (fun u37 => absurd u37 u2)
            refine yl_Parser_pat_p145 ?_
            unfold yb_Parser_pat_p145
            refine zW_nn ?_
            simp only [show (tNf (pF σ) (pc σ) ∧ gk t1 = 31) = True from eq_true ⟨hnf, g31⟩, true_and] at he
            refine zW_takes 2 125 (by decide) (by omega) S80 (by omega) (by omega) he her (fun u38 => absurd u34 u38) (fun u38 σ38 H38 η38 S38 p38 w38 he => ?_)
            have q38 := Qx_p p38
            have m38 := q38.2.2.1
            have d38 := dep_le q38
            have vn38 := congrArg List.length w38.2
            have vd38 := q38.1
            have S39 := SS_new (kd := 32) (n := 6) (p := []) S38 (by decide) trivial
            refine zW_new ?_
            rw [if_neg (show ¬ (32 : Nat) = 3 by decide)]
            refine zW_nm1 (SS_up 1 S39 rfl) (fun x40 S40 => ?_)
            refine zW_nm2 (SS_up 1 S40 rfl) ?_
            refine zW_sub h20 (by omega) S40 hu (by omega) (by omega) he her (fun t41 σ41 H41 η41 ro41 S41 o41 q41 e41 he => ?_)
            have m41 := q41.2.2.1
            have d41 := dep_le q41
            have vn41 := Er_len e41
            have vd41 := q41.1
            have S42 := SS_no S41
            have S43 := SS_pk 5 [4, 2, 0, 1, 3] rfl rfl S42
            refine m_AsPat (by omega) S43 (fun H44 S44 => ?_)
            have S45 := SS_pk 2 [1, 0] rfl rfl S44
            have S46 := SS_drop S45
            refine zW_rQ (hk (gn 37 [[gbg t1, ((gp t1).getD 0 []).getD 1 0], (gp t1).getD 1 []] [t41]) _ _ _ _ (Option.some.inj he).symm ?_ ⟨⟨(by decide : 30 ≤ 37), (by decide : 37 ≤ 41)⟩, fun q => by cases q⟩ (Qx_to (Qx_t q1 (Qx_t q38 q41)) (by omega) (by omega)) (Er_c ?_ ?_ (Er_t (Er_e e1 w38) e41)))
            · rw [ho_gn]
              have S99 := SS_mono S46 (g' := g - 10) (h' := h - 60) (by omega) (by omega)
              rw [← hz.2] at S99
              exact S99
            · rw [gms_37]; exact gms_as (p := []) (x := t1) g31 hz.1
            · rw [gms_37]; exact gms_as (p := []) (x := t1) g31 hz.1
      · rw [if_neg u2, if_neg (fun z => u34 z.2)] at he
        exact zW_rQ (hk _ _ _ _ _ (Option.some.inj he).symm (SS_mono S1 (by omega) (by omega)) o1 (Qx_to q1 (by omega) (by omega)) e1)
  refine yl_Parser_pat ?_
  unfold yb_Parser_pat
  refine zW_plc S ?_
  refine zW_let ?_
  refine zW_tis 20 112 (by decide) (by omega) S (fun u1 => ?_) (fun u1 => ?_)
  · skip
    exact key 1 (Or.inl ⟨rfl, Or.inl u1⟩)
  · skip
    refine zW_isNm (by omega) S (fun u2 => ?_) (fun u2 => ?_)
    · refine zW_f (by decide) ?_
      refine zW_str (by omega) S (fun u3 => ?_) (fun u3 => ?_)
      · exact key 1 (Or.inl ⟨rfl, Or.inr ⟨u2, u3⟩⟩)
      · exact key 0 (Or.inr ⟨rfl, fun z => z.elim u1 (fun z => u3 z.2)⟩)
    · refine zW_t rfl ?_
      exact key 0 (Or.inr ⟨rfl, fun z => z.elim u1 (fun z => u2 z.1)⟩)
end YPat3
