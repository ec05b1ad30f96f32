set_option maxRecDepth 100000
/-! THE HOUSE'S PARSER: expressions (printed by gen/dsl/p74xd.py) -/
abbrev okbX : Int → Gt → Prop := fun _ τ => (3 ≤ gk τ ∧ gk τ ≤ 20) ∨ (90 ≤ gk τ ∧ gk τ ≤ 92)
def nW (f : Ps → PR) (σ : Ps) : PR := if tWide (pc σ) then f σ else none
theorem nW_he {f : Ps → PR} {K : Gt → Ps → PR} {σ : Ps} {r : (Int × Nat) ⊕ (Gt × Ps)} (h : tWide (pc σ)) (he : pB (f σ) K = some r) : pB (nW f σ) K = some r := by unfold nW; rw [if_pos h]; exact he
theorem nW_is {f : Ps → PR} {σ : Ps} {r : (Int × Nat) ⊕ (Gt × Ps)} (he : nW f σ = some r) : tWide (pc σ) ∧ f σ = some r := by
  unfold nW at he
  split at he
  · next h => exact ⟨h, he⟩
  · cases he
theorem tWide_6 {c : Tok} (h : tWide c) : c.1 ≠ 6 := by
  rcases h with z | z | z | z | z <;> (have := z.1; omega)
def imR (τ : Gt) : Gt := oO 43 [] [oF 12900 (ho τ)]
theorem ho_gl {s : List Gt} : ho (gl s) = oL (s.map ho) := by
  unfold gl
  rw [ho_gn]
  show oL (hs _) = _
  rw [hs_map]
theorem ho_14 {p : Int} {a b : Gt} : ho (gn 14 [[p]] [a, b]) = oO 56 [11700, p, 16801, 0] [oF 16802 (ho a), oF 16803 (ho b)] := by rw [ho_gn]; rfl
theorem ho_15 {p : Int} {a b : Gt} : ho (gn 15 [[p]] [a, b]) = oO 56 [11700, p, 16801, 1] [oF 16802 (ho a), oF 16803 (ho b)] := by rw [ho_gn]; rfl
theorem ho_16 {p : Int} {a b : Gt} : ho (gn 16 [[p]] [a, b]) = oO 55 [11700, p] [oF 16501 (ho a), oF 16502 (ho b)] := by rw [ho_gn]; rfl
theorem ho_13 {p q : Int} {a b : Gt} : ho (gn 13 [[p, q]] [a, b]) = oO 57 [11700, p, 17103, q] [oF 17101 (ho a), oF 17102 (imR b)] := by rw [ho_gn]; rfl
theorem ho_61 {a b : Gt} : ho (gn 61 [] [a, b]) = oO 44 [] [oF 13200 (ho a), oF 13201 (ho b)] := by rw [ho_gn]; rfl
theorem ho_6 {p : Int} {f : Gt} {s : List Gt} : ho (gn 6 [[p]] (f :: s)) = oO 53 [11700, p] [oF 15901 (ho f), oF 15902 (oL (s.map ho))] := by
  rw [ho_gn]
  show oO 53 [11700, p] [oF 15901 (ho f), oF 15902 (oL (hs (List.map _ s)))] = _
  rw [hs_map]
theorem ho_5 {p : Int} {s : List Gt} : ho (gn 5 [[p]] s) = oO 47 [11700, p] [oF 14101 (oL (fdL s)), oF 14102 (oL (fdP s)), oF 14103 (oL (s.map ho))] := by
  rw [ho_gn]
  show oO 47 [11700, p] [oF 14101 (oL (hlb _)), oF 14102 (oL (hpl _)), oF 14103 (oL (hs _))] = _
  rw [hlb_map, hpl_map, hs_map]
theorem ho_19 {p : Int} {s : List Gt} : ho (gn 19 [[p]] s) = oO 48 [11700, p] [oF 14401 (oL (s.map ho))] := by
  rw [ho_gn]
  show oO 48 [11700, p] [oF 14401 (oL (hs _))] = _
  rw [hs_map]
theorem ho_17 {p : Int} {s : List Gt} : ho (gn 17 [[p]] s) = oO 46 [11700, p] [oF 13801 (oL (s.map ho))] := by
  rw [ho_gn]
  show oO 46 [11700, p] [oF 13801 (oL (hs _))] = _
  rw [hs_map]
theorem ho_20 {p : Int} {s : List Gt} : ho (gn 20 [[p]] s) = oO 47 [11700, p] [oF 14101 (oL (nlb s.length)), oF 14102 oN, oF 14103 (oL (s.map ho))] := by
  rw [ho_gn]
  show oO 47 [11700, p] [oF 14101 (oL (nlb (List.map _ _).length)), oF 14102 oN, oF 14103 (oL (hs _))] = _
  rw [hs_map, List.length_map]
def YCl (C : YC) (B : Nat → Prop) (X : Nat → Nat) (t : List Int) (fs : Ps → PR) (mth lev : Nat) (im : Gt → Gt) (ok : Ps → Gt → Prop) : Prop :=
  ∀ (Γ : Gm) (H : YS) (σ : Ps) (η : Et) (M : List (Gt × Option Nat)) (g h : Int) (d : Nat) (Q : Option (Option ZV) → YS → Prop) (r : (Int × Nat) ⊕ (Gt × Ps)), SS C B X t Γ H σ η M g h → hU mth Γ → g ≤ 2980 → h ≤ 2900 → dep t σ + lev ≤ d → fs σ = some r →
    (∀ e p H', r = .inl (e, p) → Th C B X t Γ H' e p → Q none H') →
    (∀ τ σ1 H1 η1 ro, r = .inr (τ, σ1) → SS C B X t Γ H1 σ1 η1 ((im τ, ro) :: M) (g - 10) (h - 60) → ok σ τ → Qx t 0 1 σ σ1 → Er η η1 [τ] → Q (some (some (.inr (.inr ro)))) H1) → zW (YL C d mth [zr (X 8)] H) Q
section YExp1
variable {C : YC} {B P O : Nat → Prop} {X : Nat → Nat} {t : List Int} {Γ : Gm} {H H' : YS} {σ σ1 : Ps} {η η1 : Et} {M : List (Gt × Option Nat)} {g h g' h' : Int} {a e c s d dp cap : Nat} {F : List (List Int × Int × Int)} {Q : Option (Option ZV) → YS → Prop} {r : (Int × Nat) ⊕ (Gt × Ps)} {f : Ps → PR} {θ τ : Gt} {w : Option Nat} {l : List Gt} {tk : Tok} {R : PX}
theorem zW_subl {mth lev : Nat} {fs : Ps → PR} {im : Gt → Gt} {ok : Ps → Gt → Prop} {kk : Option Nat → YS → ZR YS} {fK : Gt → Ps → PR} (ih : YCl C B X t fs mth lev im ok) (hd : dep t σ + lev + 1 ≤ d) (S : SS C B X t Γ H σ η M g h) (hu : hU mth Γ) (hg : g ≤ 2980) (hh : h ≤ 2900) (he : pB (fs σ) fK = some r) (her : ∀ e p H', r = .inl (e, p) → Th C B X t Γ H' e p → Q none H')
    (hk : ∀ τ σ1 H1 η1 ro, SS C B X t Γ H1 σ1 η1 ((im τ, ro) :: M) (g - 10) (h - 60) → ok σ τ → Qx t 0 1 σ σ1 → Er η η1 [τ] → fK τ σ1 = some r → zW (kk ro H1) Q) : zW (zQ (ycv (YL C) d [(6, mth)] (some (X 8)) [] H) kk) Q := by
  obtain ⟨d, rfl⟩ : ∃ e, d = e + 1 := ⟨d - 1, by omega⟩
  rw [ycv_s (SS_8 S) ⟨by decide, rfl⟩]
  cases hR : fs σ with
  | none => rw [hR] at he; cases he
  | some q =>
    rw [hR] at he
    refine zW_Q (P := fun v H1 => ∃ τ σ1 η1, q = .inr (τ, σ1) ∧ SS C B X t Γ H1 σ1 η1 ((im τ, v) :: M) (g - 10) (h - 60) ∧ ok σ τ ∧ Qx t 0 1 σ σ1 ∧ Er η η1 [τ]) (T := fun H1 => ∃ e p, q = .inl (e, p) ∧ Th C B X t Γ H1 e p) (zW_c (ih Γ H σ η M g h d _ q S hu hg hh (by omega) hR (fun e p H1 w T => ⟨e, p, w, T⟩) (fun τ σ1 H1 η1 ro w S1 o1 q1 e1 => ⟨τ, σ1, η1, w, S1, o1, q1, e1⟩))) ?_ ?_
    · rintro v H1 ⟨τ, σ1, η1, rfl, S1, o1, q1, e1⟩
      exact hk τ σ1 H1 η1 v S1 o1 q1 e1 he
    · rintro H1 ⟨e, p, rfl, T⟩
      exact her e p H1 (Option.some.inj he).symm T
theorem y_eitherLoop (h1 : YCf C B X t (nW (R 1 [] [])) 142 9 ho okEx) (h5 : YCf C B X t (R 5 [] []) 145 8 ho okEx) (hL : YLo C B X t (fun a => R 4 [] [a]) 9 594 okbX) : YLo C B X t (fun a => gEitherR t R a) 9 594 okbX := by
  intro Γ H σ η M g h d Q r a ra b S hu hg hh hd ok he her hk
  have d40 := dep_40 S
  have vl := SS_vl S
  have he : gEitherR t R a σ = some r := he
  unfold gEitherR at he
  try simp only [pB_pT, pB_ite, pB_pR, pB_pWr, pB_in, pB_ass, pB_pNeed, pB_pOpens, pB_pCloses, pB_pName, pB_pAny, pB_pOpn, pB_pLab, gs_gl, cons1] at he
  refine yl_Parser_either_p5 ?_
  unfold yb_Parser_either_p5
  refine zW_tis 21 144 (by decide) (by omega) S (fun u1 => ?_) (fun u1 => ?_)
  · rw [if_pos u1] at he
    refine zW_opens (by omega) S (by have := u1.1; omega) (by omega) (by omega) he her (fun lt σ2 H2 η2 S2 p2 w2 he => ?_)
    have q2 : Qx t 1 1 σ σ2 := Qx_to (Qx_o p2) (by omega) (by omega)
    have m2 := q2.2.2.1
    have d2 := dep_op q2 lt
    have v2 := p2.2.1
    have vn2 := congrArg List.length w2.2
    have vd2 := q2.1
    have S3 := SS_new (kd := 56) (n := 4) (p := []) S2 (by decide) trivial
    refine zW_new ?_
    rw [if_neg (show ¬ (56 : Nat) = 3 by decide)]
    refine zW_isWide (by omega) S3 (fun u4 => ?_) (fun u4 => ?_)
    · refine zW_f (by decide) ?_
      rw [if_pos u4] at he
      have he := nW_he u4 he
      refine zW_sub h1 (by omega) S3 hu (by omega) (by omega) he her (fun t5 σ5 H5 η5 ro5 S5 o5 q5 e5 he => ?_)
      have m5 := q5.2.2.1
      have d5 := dep_le q5
      have vn5 := Er_len e5
      have vd5 := q5.1
      refine yl_Parser_either_p47 ?_
      unfold yb_Parser_either_p47
      have S6 := SS_pk 3 [2, 0, 1] rfl rfl S5
      obtain ⟨y7, rfl, hb7⟩ := SS_bgE ok S6
      have S8 := SS_pk 3 [2, 0, 1] rfl rfl S6
      refine m_Both (by omega) hb7 (by omega) S8 (fun H9 S9 => ?_)
      refine zW_let ?_
      refine zW_dec (by omega) (by omega) S9 (fun H10 η10 S10 w10 => ?_)
      have vn10 := congrArg List.length w10.2
      have q10 : Qx t (-1) 0 σ5 (psd σ5 (pd σ5 - 1)) := ⟨by show ((pd σ5 - 1 : Nat) : Int) = _; omega, rfl, Nat.le_refl _, Nat.le_refl _⟩
      have vd10 := q10.1
      have d10 : dep t (psd σ5 (pd σ5 - 1)) + 2 * 1 ≤ dep t σ := dep_le (Qx_to (Qx_t q2 (Qx_t q5 q10)) (by omega) (by omega))
      have S90 := S10
      rw [← ho_14] at S90
      refine hL Γ H10 (psd σ5 (pd σ5 - 1)) η10 M _ _ d Q r _ _ b S90 hu (by omega) (by omega) (by omega) (Or.inl ⟨(by decide : 3 ≤ 14), (by decide : 14 ≤ 20)⟩) he her (fun τ σ77 H77 η77 ro77 l e77 S77 o77 q77 er77 g77 => hk τ σ77 H77 η77 ro77 (t5 :: l) e77 (SS_mono S77 (by omega) (by omega)) o77 (Qx_to (Qx_t (Qx_t q2 (Qx_t q5 q10)) q77) (by omega) (by omega)) (Er_t (Er_e (Er_o w2 e5) w10) er77) (fun c => ?_))
      rw [g77 c, gmn_tr (by decide), gms_2, List.append_assoc]; rfl
    · refine zW_t rfl ?_
      rw [if_neg u4] at he
      refine zW_sub h5 (by omega) S3 hu (by omega) (by omega) he her (fun t11 σ11 H11 η11 ro11 S11 o11 q11 e11 he => ?_)
      have m11 := q11.2.2.1
      have d11 := dep_le q11
      have vn11 := Er_len e11
      have vd11 := q11.1
      refine yl_Parser_either_p47 ?_
      unfold yb_Parser_either_p47
      have S12 := SS_pk 3 [2, 0, 1] rfl rfl S11
      obtain ⟨y13, rfl, hb13⟩ := SS_bgE ok S12
      have S14 := SS_pk 3 [2, 0, 1] rfl rfl S12
      refine m_Both (by omega) hb13 (by omega) S14 (fun H15 S15 => ?_)
      refine zW_let ?_
      refine zW_dec (by omega) (by omega) S15 (fun H16 η16 S16 w16 => ?_)
      have vn16 := congrArg List.length w16.2
      have q16 : Qx t (-1) 0 σ11 (psd σ11 (pd σ11 - 1)) := ⟨by show ((pd σ11 - 1 : Nat) : Int) = _; omega, rfl, Nat.le_refl _, Nat.le_refl _⟩
      have vd16 := q16.1
      have d16 : dep t (psd σ11 (pd σ11 - 1)) + 2 * 1 ≤ dep t σ := dep_le (Qx_to (Qx_t q2 (Qx_t q11 q16)) (by omega) (by omega))
      have S90 := S16
      rw [← ho_14] at S90
      refine hL Γ H16 (psd σ11 (pd σ11 - 1)) η16 M _ _ d Q r _ _ b S90 hu (by omega) (by omega) (by omega) (Or.inl ⟨(by decide : 3 ≤ 14), (by decide : 14 ≤ 20)⟩) he her (fun τ σ77 H77 η77 ro77 l e77 S77 o77 q77 er77 g77 => hk τ σ77 H77 η77 ro77 (t11 :: l) e77 (SS_mono S77 (by omega) (by omega)) o77 (Qx_to (Qx_t (Qx_t q2 (Qx_t q11 q16)) q77) (by omega) (by omega)) (Er_t (Er_e (Er_o w2 e11) w16) er77) (fun c => ?_))
      rw [g77 c, gmn_tr (by decide), gms_2, List.append_assoc]; rfl
  · rw [if_neg u1] at he
    exact zW_rQ (hk a σ H η ra [] (Option.some.inj he).symm S ok Qx_0 (Er_1 ⟨rfl, rfl⟩) (fun c => (List.append_nil _).symm))
theorem y_bothLoop (h1 : YCf C B X t (nW (R 1 [] [])) 142 9 ho okEx) (h7 : YCf C B X t (R 7 [] []) 146 7 ho okEx) (hL : YLo C B X t (fun a => R 6 [] [a]) 8 595 okbX) : YLo C B X t (fun a => gBothR t R a) 8 595 okbX := by
  intro Γ H σ η M g h d Q r a ra b S hu hg hh hd ok he her hk
  have d40 := dep_40 S
  have vl := SS_vl S
  have he : gBothR t R a σ = some r := he
  unfold gBothR at he
  try simp only [pB_pT, pB_ite, pB_pR, pB_pWr, pB_in, pB_ass, pB_pNeed, pB_pOpens, pB_pCloses, pB_pName, pB_pAny, pB_pOpn, pB_pLab, gs_gl, cons1] at he
  refine yl_Parser_both_p5 ?_
  unfold yb_Parser_both_p5
  refine zW_tis 1 143 (by decide) (by omega) S (fun u1 => ?_) (fun u1 => ?_)
  · rw [if_pos u1] at he
    refine zW_opens (by omega) S (by have := u1.1; omega) (by omega) (by omega) he her (fun lt σ2 H2 η2 S2 p2 w2 he => ?_)
    have q2 : Qx t 1 1 σ σ2 := Qx_to (Qx_o p2) (by omega) (by omega)
    have m2 := q2.2.2.1
    have d2 := dep_op q2 lt
    have v2 := p2.2.1
    have vn2 := congrArg List.length w2.2
    have vd2 := q2.1
    have S3 := SS_new (kd := 56) (n := 4) (p := []) S2 (by decide) trivial
    refine zW_new ?_
    rw [if_neg (show ¬ (56 : Nat) = 3 by decide)]
    refine zW_isWide (by omega) S3 (fun u4 => ?_) (fun u4 => ?_)
    · refine zW_f (by decide) ?_
      rw [if_pos u4] at he
      have he := nW_he u4 he
      refine zW_sub h1 (by omega) S3 hu (by omega) (by omega) he her (fun t5 σ5 H5 η5 ro5 S5 o5 q5 e5 he => ?_)
      have m5 := q5.2.2.1
      have d5 := dep_le q5
      have vn5 := Er_len e5
      have vd5 := q5.1
      refine yl_Parser_both_p47 ?_
      unfold yb_Parser_both_p47
      have S6 := SS_pk 3 [2, 0, 1] rfl rfl S5
      obtain ⟨y7, rfl, hb7⟩ := SS_bgE ok S6
      have S8 := SS_pk 3 [2, 0, 1] rfl rfl S6
      refine m_Both (by omega) hb7 (by omega) S8 (fun H9 S9 => ?_)
      refine zW_let ?_
      refine zW_dec (by omega) (by omega) S9 (fun H10 η10 S10 w10 => ?_)
      have vn10 := congrArg List.length w10.2
      have q10 : Qx t (-1) 0 σ5 (psd σ5 (pd σ5 - 1)) := ⟨by show ((pd σ5 - 1 : Nat) : Int) = _; omega, rfl, Nat.le_refl _, Nat.le_refl _⟩
      have vd10 := q10.1
      have d10 : dep t (psd σ5 (pd σ5 - 1)) + 2 * 1 ≤ dep t σ := dep_le (Qx_to (Qx_t q2 (Qx_t q5 q10)) (by omega) (by omega))
      have S90 := S10
      rw [← ho_15] at S90
      refine hL Γ H10 (psd σ5 (pd σ5 - 1)) η10 M _ _ d Q r _ _ b S90 hu (by omega) (by omega) (by omega) (Or.inl ⟨(by decide : 3 ≤ 15), (by decide : 15 ≤ 20)⟩) he her (fun τ σ77 H77 η77 ro77 l e77 S77 o77 q77 er77 g77 => hk τ σ77 H77 η77 ro77 (t5 :: l) e77 (SS_mono S77 (by omega) (by omega)) o77 (Qx_to (Qx_t (Qx_t q2 (Qx_t q5 q10)) q77) (by omega) (by omega)) (Er_t (Er_e (Er_o w2 e5) w10) er77) (fun c => ?_))
      rw [g77 c, gmn_tr (by decide), gms_2, List.append_assoc]; rfl
    · refine zW_t rfl ?_
      rw [if_neg u4] at he
      refine zW_sub h7 (by omega) S3 hu (by omega) (by omega) he her (fun t11 σ11 H11 η11 ro11 S11 o11 q11 e11 he => ?_)
      have m11 := q11.2.2.1
      have d11 := dep_le q11
      have vn11 := Er_len e11
      have vd11 := q11.1
      refine yl_Parser_both_p47 ?_
      unfold yb_Parser_both_p47
      have S12 := SS_pk 3 [2, 0, 1] rfl rfl S11
      obtain ⟨y13, rfl, hb13⟩ := SS_bgE ok S12
      have S14 := SS_pk 3 [2, 0, 1] rfl rfl S12
      refine m_Both (by omega) hb13 (by omega) S14 (fun H15 S15 => ?_)
      refine zW_let ?_
      refine zW_dec (by omega) (by omega) S15 (fun H16 η16 S16 w16 => ?_)
      have vn16 := congrArg List.length w16.2
      have q16 : Qx t (-1) 0 σ11 (psd σ11 (pd σ11 - 1)) := ⟨by show ((pd σ11 - 1 : Nat) : Int) = _; omega, rfl, Nat.le_refl _, Nat.le_refl _⟩
      have vd16 := q16.1
      have d16 : dep t (psd σ11 (pd σ11 - 1)) + 2 * 1 ≤ dep t σ := dep_le (Qx_to (Qx_t q2 (Qx_t q11 q16)) (by omega) (by omega))
      have S90 := S16
      rw [← ho_15] at S90
      refine hL Γ H16 (psd σ11 (pd σ11 - 1)) η16 M _ _ d Q r _ _ b S90 hu (by omega) (by omega) (by omega) (Or.inl ⟨(by decide : 3 ≤ 15), (by decide : 15 ≤ 20)⟩) he her (fun τ σ77 H77 η77 ro77 l e77 S77 o77 q77 er77 g77 => hk τ σ77 H77 η77 ro77 (t11 :: l) e77 (SS_mono S77 (by omega) (by omega)) o77 (Qx_to (Qx_t (Qx_t q2 (Qx_t q11 q16)) q77) (by omega) (by omega)) (Er_t (Er_e (Er_o w2 e11) w16) er77) (fun c => ?_))
      rw [g77 c, gmn_tr (by decide), gms_2, List.append_assoc]; rfl
  · rw [if_neg u1] at he
    exact zW_rQ (hk a σ H η ra [] (Option.some.inj he).symm S ok Qx_0 (Er_1 ⟨rfl, rfl⟩) (fun c => (List.append_nil _).symm))
theorem y_typedLoop (h30 : YCf C B X t (R 30 [] []) 126 4 ho okTy) (hL : YLo C B X t (fun a => R 8 [] [a]) 7 596 okbX) : YLo C B X t (fun a => gTypedR t R a) 7 596 okbX := by
  intro Γ H σ η M g h d Q r a ra b S hu hg hh hd ok he her hk
  have d40 := dep_40 S
  have vl := SS_vl S
  have he : gTypedR t R a σ = some r := he
  unfold gTypedR at he
  try simp only [pB_pT, pB_ite, pB_pR, pB_pWr, pB_in, pB_ass, pB_pNeed, pB_pOpens, pB_pCloses, pB_pName, pB_pAny, pB_pOpn, pB_pLab, gs_gl, cons1] at he
  refine yl_Parser_typed_p5 ?_
  unfold yb_Parser_typed_p5
  refine zW_takes 38 122 (by decide) (by omega) S (by omega) (by omega) he her (fun u1 he => ?_) (fun u1 σ1 H1 η1 S1 p1 w1 he => ?_)
  · exact zW_rQ (hk a σ H η ra [] (Option.some.inj he).symm S ok Qx_0 (Er_1 ⟨rfl, rfl⟩) (fun c => (List.append_nil _).symm))
  · have q1 := Qx_p p1
    have m1 := q1.2.2.1
    have d1 := dep_le q1
    have vn1 := congrArg List.length w1.2
    have vd1 := q1.1
    have S2 := SS_new (kd := 55) (n := 3) (p := []) S1 (by decide) trivial
    refine zW_new ?_
    rw [if_neg (show ¬ (55 : Nat) = 3 by decide)]
    refine zW_sub h30 (by omega) S2 (Or.inl hu) (by omega) (by omega) he her (fun t3 σ3 H3 η3 ro3 S3 o3 q3 e3 he => ?_)
    have m3 := q3.2.2.1
    have d3 := dep_le q3
    have vn3 := Er_len e3
    have vd3 := q3.1
    have S4 := SS_pk 3 [2, 0, 1] rfl rfl S3
    obtain ⟨y5, rfl, hb5⟩ := SS_bgE ok S4
    have S6 := SS_pk 3 [2, 0, 1] rfl rfl S4
    refine m_Typed hb5 (by omega) S6 (fun H7 S7 => ?_)
    refine zW_let ?_
    have S90 := S7
    rw [← ho_16] at S90
    refine hL Γ H7 σ3 η3 M _ _ d Q r _ _ b S90 hu (by omega) (by omega) (by omega) (Or.inl ⟨(by decide : 3 ≤ 16), (by decide : 16 ≤ 20)⟩) he her (fun τ σ77 H77 η77 ro77 l e77 S77 o77 q77 er77 g77 => hk τ σ77 H77 η77 ro77 (t3 :: l) e77 (SS_mono S77 (by omega) (by omega)) o77 (Qx_to (Qx_t (Qx_t q1 q3) q77) (by omega) (by omega)) (Er_t (Er_o w1 e3) er77) (fun c => ?_))
    rw [g77 c, gmn_tr (by decide), gms_2, List.append_assoc]; rfl
theorem y_expLoop (h2 : YCl C B X t (R 2 [] []) 143 11 imR (fun _ _ => True)) (hL : YLo C B X t (fun a => R 16 [] [a]) 10 591 okbX) : YLo C B X t (fun a => gHdl t R a) 10 591 okbX := by
  intro Γ H σ η M g h d Q r a ra b S hu hg hh hd ok he her hk
  have d40 := dep_40 S
  have vl := SS_vl S
  have he : gHdl t R a σ = some r := he
  unfold gHdl at he
  try simp only [pB_pT, pB_ite, pB_pR, pB_pWr, pB_in, pB_ass, pB_pNeed, pB_pOpens, pB_pCloses, pB_pName, pB_pAny, pB_pOpn, pB_pLab, gs_gl, cons1] at he
  refine yl_Parser_exp_p17 ?_
  unfold yb_Parser_exp_p17
  refine zW_tis 11 145 (by decide) (by omega) S (fun u1 => ?_) (fun u1 => ?_)
  · rw [if_pos u1] at he
    refine zW_opens (by omega) S (by have := u1.1; omega) (by omega) (by omega) he her (fun lt σ2 H2 η2 S2 p2 w2 he => ?_)
    have q2 : Qx t 1 1 σ σ2 := Qx_to (Qx_o p2) (by omega) (by omega)
    have m2 := q2.2.2.1
    have d2 := dep_op q2 lt
    have v2 := p2.2.1
    have vn2 := congrArg List.length w2.2
    have vd2 := q2.1
    refine zW_let ?_
    have S3 := SS_new (kd := 57) (n := 4) (p := []) S2 (by decide) trivial
    refine zW_new ?_
    rw [if_neg (show ¬ (57 : Nat) = 3 by decide)]
    refine zW_subl h2 (by omega) S3 hu (by omega) (by omega) he her (fun t4 σ4 H4 η4 ro4 S4 o4 q4 e4 he => ?_)
    have m4 := q4.2.2.1
    have d4 := dep_le q4
    have vn4 := Er_len e4
    have vd4 := q4.1
    have S5 := SS_pk 3 [2, 0, 1] rfl rfl S4
    obtain ⟨y6, rfl, hb6⟩ := SS_bgE ok S5
    have S7 := SS_pk 3 [2, 0, 1] rfl rfl S5
    refine m_Handle hb6 (by omega) S7 (fun H8 S8 => ?_)
    refine zW_let ?_
    refine zW_dec (by omega) (by omega) S8 (fun H9 η9 S9 w9 => ?_)
    have vn9 := congrArg List.length w9.2
    have q9 : Qx t (-1) 0 σ4 (psd σ4 (pd σ4 - 1)) := ⟨by show ((pd σ4 - 1 : Nat) : Int) = _; omega, rfl, Nat.le_refl _, Nat.le_refl _⟩
    have vd9 := q9.1
    have d9 : dep t (psd σ4 (pd σ4 - 1)) + 2 * 1 ≤ dep t σ := dep_le (Qx_to (Qx_t q2 (Qx_t q4 q9)) (by omega) (by omega))
    have S90 := S9
    rw [← ho_13] at S90
    refine hL Γ H9 (psd σ4 (pd σ4 - 1)) η9 M _ _ d Q r _ _ b S90 hu (by omega) (by omega) (by omega) (Or.inl ⟨(by decide : 3 ≤ 13), (by decide : 13 ≤ 20)⟩) he her (fun τ σ77 H77 η77 ro77 l e77 S77 o77 q77 er77 g77 => hk τ σ77 H77 η77 ro77 (t4 :: l) e77 (SS_mono S77 (by omega) (by omega)) o77 (Qx_to (Qx_t (Qx_t q2 (Qx_t q4 q9)) q77) (by omega) (by omega)) (Er_t (Er_e (Er_o w2 e4) w9) er77) (fun c => ?_))
    rw [g77 c, gmn_tr (by decide), gms_2, List.append_assoc]; rfl
  · rw [if_neg u1] at he
    exact zW_rQ (hk a σ H η ra [] (Option.some.inj he).symm S ok Qx_0 (Er_1 ⟨rfl, rfl⟩) (fun c => (List.append_nil _).symm))
theorem y_either (hS : YCf C B X t (R 5 [] []) 145 8 ho okEx) (hL : YLo C B X t (fun a => R 4 [] [a]) 9 594 okbX) : YCf C B X t (gEither R) 144 9 ho okEx := by
  intro Γ H σ η M g h d Q r S hu hg hh hd he her hk
  have d40 := dep_40 S
  have vl := SS_vl S
  unfold gEither at he
  try simp only [pB_pT, pB_ite, pB_pR, pB_pWr, pB_in, pB_ass, pB_pNeed, pB_pOpens, pB_pCloses, pB_pName, pB_pAny, pB_pOpn, pB_pLab, gs_gl, cons1] at he
  refine yl_Parser_either ?_
  unfold yb_Parser_either
  refine zW_sub hS (by omega) S hu (by omega) (by omega) he her (fun t1 σ1 H1 η1 ro1 S1 o1 q1 e1 he => ?_)
  have m1 := q1.2.2.1
  have d1 := dep_le q1
  have vn1 := Er_len e1
  have vd1 := q1.1
  refine zW_let ?_
  refine hL Γ H1 σ1 η1 M _ _ d Q r _ _ 0 S1 hu (by omega) (by omega) (by omega) o1 he her (fun τ σ77 H77 η77 ro77 l e77 S77 o77 q77 er77 g77 => hk τ σ77 H77 η77 ro77 e77 (SS_mono S77 (by omega) (by omega)) o77 (Qx_to (Qx_t q1 q77) (by omega) (by omega)) (Er_c ?_ ?_ (Er_t e1 er77)))
  · rw [gms_1, g77, gms_app, gms_1]
  · rw [gms_1, g77, gms_app, gms_1]
theorem y_both (hS : YCf C B X t (R 7 [] []) 146 7 ho okEx) (hL : YLo C B X t (fun a => R 6 [] [a]) 8 595 okbX) : YCf C B X t (gBoth R) 145 8 ho okEx := by
  intro Γ H σ η M g h d Q r S hu hg hh hd he her hk
  have d40 := dep_40 S
  have vl := SS_vl S
  unfold gBoth at he
  try simp only [pB_pT, pB_ite, pB_pR, pB_pWr, pB_in, pB_ass, pB_pNeed, pB_pOpens, pB_pCloses, pB_pName, pB_pAny, pB_pOpn, pB_pLab, gs_gl, cons1] at he
  refine yl_Parser_both ?_
  unfold yb_Parser_both
  refine zW_sub hS (by omega) S hu (by omega) (by omega) he her (fun t1 σ1 H1 η1 ro1 S1 o1 q1 e1 he => ?_)
  have m1 := q1.2.2.1
  have d1 := dep_le q1
  have vn1 := Er_len e1
  have vd1 := q1.1
  refine zW_let ?_
  refine hL Γ H1 σ1 η1 M _ _ d Q r _ _ 0 S1 hu (by omega) (by omega) (by omega) o1 he her (fun τ σ77 H77 η77 ro77 l e77 S77 o77 q77 er77 g77 => hk τ σ77 H77 η77 ro77 e77 (SS_mono S77 (by omega) (by omega)) o77 (Qx_to (Qx_t q1 q77) (by omega) (by omega)) (Er_c ?_ ?_ (Er_t e1 er77)))
  · rw [gms_1, g77, gms_app, gms_1]
  · rw [gms_1, g77, gms_app, gms_1]
theorem y_typed (hS : YCf C B X t (R 9 [] []) 147 6 ho okEx) (hL : YLo C B X t (fun a => R 8 [] [a]) 7 596 okbX) : YCf C B X t (gTyped R) 146 7 ho okEx := by
  intro Γ H σ η M g h d Q r S hu hg hh hd he her hk
  have d40 := dep_40 S
  have vl := SS_vl S
  unfold gTyped at he
  try simp only [pB_pT, pB_ite, pB_pR, pB_pWr, pB_in, pB_ass, pB_pNeed, pB_pOpens, pB_pCloses, pB_pName, pB_pAny, pB_pOpn, pB_pLab, gs_gl, cons1] at he
  refine yl_Parser_typed ?_
  unfold yb_Parser_typed
  refine zW_sub hS (by omega) S hu (by omega) (by omega) he her (fun t1 σ1 H1 η1 ro1 S1 o1 q1 e1 he => ?_)
  have m1 := q1.2.2.1
  have d1 := dep_le q1
  have vn1 := Er_len e1
  have vd1 := q1.1
  refine zW_let ?_
  refine hL Γ H1 σ1 η1 M _ _ d Q r _ _ 0 S1 hu (by omega) (by omega) (by omega) o1 he her (fun τ σ77 H77 η77 ro77 l e77 S77 o77 q77 er77 g77 => hk τ σ77 H77 η77 ro77 e77 (SS_mono S77 (by omega) (by omega)) o77 (Qx_to (Qx_t q1 q77) (by omega) (by omega)) (Er_c ?_ ?_ (Er_t e1 er77)))
  · rw [gms_1, g77, gms_app, gms_1]
  · rw [gms_1, g77, gms_app, gms_1]
theorem y_exp (h1 : YCf C B X t (nW (R 1 [] [])) 142 9 ho okEx) (h3 : YCf C B X t (R 3 [] []) 144 9 ho okEx) (hL : YLo C B X t (fun a => R 16 [] [a]) 10 591 okbX) : YCf C B X t (gExp R) 140 10 ho okEx := by
  intro Γ H σ η M g h d Q r S hu hg hh hd he her hk
  have d40 := dep_40 S
  have vl := SS_vl S
  unfold gExp at he
  try simp only [pB_pT, pB_ite, pB_pR, pB_pWr, pB_in, pB_ass, pB_pNeed, pB_pOpens, pB_pCloses, pB_pName, pB_pAny, pB_pOpn, pB_pLab, gs_gl, cons1] at he
  refine yl_Parser_exp ?_
  unfold yb_Parser_exp
  refine zW_isWide (by omega) S (fun u1 => ?_) (fun u1 => ?_)
  · refine zW_f (by decide) ?_
    rw [if_pos u1] at he
    have he : pB (R 1 [] [] σ) pR = some r := by rw [pB_id]; exact he
    have he := nW_he u1 he
    refine zW_sub h1 (by omega) S hu (by omega) (by omega) he her (fun t2 σ2 H2 η2 ro2 S2 o2 q2 e2 he => ?_)
    have m2 := q2.2.2.1
    have d2 := dep_le q2
    have vn2 := Er_len e2
    have vd2 := q2.1
    exact zW_rQ (hk _ _ _ _ _ (Option.some.inj he).symm (SS_mono S2 (by omega) (by omega)) o2 (Qx_to q2 (by omega) (by omega)) e2)
  · refine zW_t rfl ?_
    rw [if_neg u1] at he
    refine zW_sub h3 (by omega) S hu (by omega) (by omega) he her (fun t3 σ3 H3 η3 ro3 S3 o3 q3 e3 he => ?_)
    have m3 := q3.2.2.1
    have d3 := dep_le q3
    have vn3 := Er_len e3
    have vd3 := q3.1
    refine zW_let ?_
    refine hL Γ H3 σ3 η3 M _ _ d Q r _ _ 0 S3 hu (by omega) (by omega) (by omega) o3 he her (fun τ σ77 H77 η77 ro77 l e77 S77 o77 q77 er77 g77 => hk τ σ77 H77 η77 ro77 e77 (SS_mono S77 (by omega) (by omega)) o77 (Qx_to (Qx_t q3 q77) (by omega) (by omega)) (Er_c ?_ ?_ (Er_t e3 er77)))
    · rw [gms_1, g77, gms_app, gms_1]
    · rw [gms_1, g77, gms_app, gms_1]
theorem y_wide (h0 : YCf C B X t (R 0 [] []) 140 10 ho okEx) (h2 : YCl C B X t (R 2 [] []) 143 11 imR (fun _ _ => True)) : YCf C B X t (nW (gWide t R)) 142 9 ho okEx := by
  intro Γ H σ η M g h d Q r S hu hg hh hd he her hk
  have d40 := dep_40 S
  have vl := SS_vl S
  obtain ⟨wd, he⟩ := nW_is he
  unfold gWide at he
  try simp only [pB_pT, pB_ite, pB_pR, pB_pWr, pB_in, pB_ass, pB_pNeed, pB_pOpens, pB_pCloses, pB_pName, pB_pAny, pB_pOpn, pB_pLab, gs_gl, cons1] at he
  refine yl_Parser_wide ?_
  unfold yb_Parser_wide
  refine zW_tisK 22 127 (by decide) (by omega) S (fun u1 => ?_) (fun u1 => ?_)
  · refine zW_let ?_
    refine zW_tisK 12 128 (by decide) (by omega) S (fun u2 => (tIs_ne (by decide) u1 u2).elim) (fun u2 => ?_)
    refine zW_let ?_
    refine zW_tisK 27 129 (by decide) (by omega) S (fun u3 => (tIs_ne (by decide) u1 u3).elim) (fun u3 => ?_)
    refine zW_let ?_
    refine zW_tisK 3 130 (by decide) (by omega) S (fun u4 => (tIs_ne (by decide) u1 u4).elim) (fun u4 => ?_)
    refine zW_let ?_
    refine zW_opens (by omega) S (by have := u1.1; omega) (by omega) (by omega) he her (fun lt σ5 H5 η5 S5 p5 w5 he => ?_)
    have q5 : Qx t 1 1 σ σ5 := Qx_to (Qx_o p5) (by omega) (by omega)
    have m5 := q5.2.2.1
    have d5 := dep_op q5 lt
    have v5 := p5.2.1
    have vn5 := congrArg List.length w5.2
    have vd5 := q5.1
    rw [if_pos u1] at he
    refine zW_let ?_
    refine zW_f (by decide) ?_
    have S6 := SS_new (kd := 39) (n := 2) (p := []) S5 (by decide) trivial
    refine zW_new ?_
    rw [if_neg (show ¬ (39 : Nat) = 3 by decide)]
    refine zW_sub h0 (by omega) S6 hu (by omega) (by omega) he her (fun t7 σ7 H7 η7 ro7 S7 o7 q7 e7 he => ?_)
    have m7 := q7.2.2.1
    have d7 := dep_le q7
    have vn7 := Er_len e7
    have vd7 := q7.1
    have S8 := SS_pk 2 [1, 0] rfl rfl S7
    refine m_Raise (by omega) S8 (fun H9 S9 => ?_)
    refine zW_let ?_
    refine yl_Parser_wide_p215 ?_
    unfold yb_Parser_wide_p215
    refine zW_dec (by omega) (by omega) S9 (fun H10 η10 S10 w10 => ?_)
    have vn10 := congrArg List.length w10.2
    have q10 : Qx t (-1) 0 σ7 (psd σ7 (pd σ7 - 1)) := ⟨by show ((pd σ7 - 1 : Nat) : Int) = _; omega, rfl, Nat.le_refl _, Nat.le_refl _⟩
    have vd10 := q10.1
    have d10 : dep t (psd σ7 (pd σ7 - 1)) + 2 * 1 ≤ dep t σ := dep_le (Qx_to (Qx_t q5 (Qx_t q7 q10)) (by omega) (by omega))
    refine zW_rQ (hk (gn 8 [[((pc σ).2.1 : Int)]] [t7]) _ _ _ _ (Option.some.inj he).symm ?_ ?_ (Qx_to (Qx_t q5 (Qx_t q7 q10)) (by omega) (by omega)) (Er_n (by decide) (Er_e (Er_o w5 e7) w10)))
    · rw [ho_gn]; exact SS_mono S10 (by omega) (by omega)
    · exact Or.inl ⟨(by decide : 3 ≤ 8), (by decide : 8 ≤ 20)⟩
  · refine zW_let ?_
    refine zW_tisK 12 128 (by decide) (by omega) S (fun u11 => ?_) (fun u11 => ?_)
    · refine zW_let ?_
      refine zW_tisK 27 129 (by decide) (by omega) S (fun u12 => (tIs_ne (by decide) u11 u12).elim) (fun u12 => ?_)
      refine zW_let ?_
      refine zW_tisK 3 130 (by decide) (by omega) S (fun u13 => (tIs_ne (by decide) u11 u13).elim) (fun u13 => ?_)
      refine zW_let ?_
      refine zW_opens (by omega) S (by have := u11.1; omega) (by omega) (by omega) he her (fun lt σ14 H14 η14 S14 p14 w14 he => ?_)
      have q14 : Qx t 1 1 σ σ14 := Qx_to (Qx_o p14) (by omega) (by omega)
      have m14 := q14.2.2.1
      have d14 := dep_op q14 lt
      have v14 := p14.2.1
      have vn14 := congrArg List.length w14.2
      have vd14 := q14.1
      rw [if_neg u1, if_pos u11] at he
      refine zW_let ?_
      refine zW_t rfl ?_
      refine zW_f (by decide) ?_
      refine zW_sub h0 (by omega) S14 hu (by omega) (by omega) he her (fun t15 σ15 H15 η15 ro15 S15 o15 q15 e15 he => ?_)
      have m15 := q15.2.2.1
      have d15 := dep_le q15
      have vn15 := Er_len e15
      have vd15 := q15.1
      refine zW_let ?_
      refine zW_need 24 132 (by decide) (by omega) S15 (by omega) (by omega) he her (fun _ σ16 H16 η16 S16 p16 w16 he => ?_)
      have q16 := Qx_p p16
      have m16 := q16.2.2.1
      have d16 := dep_le q16
      have vn16 := congrArg List.length w16.2
      have vd16 := q16.1
      refine zW_sub h0 (by omega) S16 hu (by omega) (by omega) he her (fun t17 σ17 H17 η17 ro17 S17 o17 q17 e17 he => ?_)
      have m17 := q17.2.2.1
      have d17 := dep_le q17
      have vn17 := Er_len e17
      have vd17 := q17.1
      refine zW_let ?_
      refine zW_need 6 133 (by decide) (by omega) S17 (by omega) (by omega) he her (fun _ σ18 H18 η18 S18 p18 w18 he => ?_)
      have q18 := Qx_p p18
      have m18 := q18.2.2.1
      have d18 := dep_le q18
      have vn18 := congrArg List.length w18.2
      have vd18 := q18.1
      have S19 := SS_new (kd := 40) (n := 4) (p := []) S18 (by decide) trivial
      refine zW_new ?_
      rw [if_neg (show ¬ (40 : Nat) = 3 by decide)]
      refine zW_sub h0 (by omega) S19 hu (by omega) (by omega) he her (fun t20 σ20 H20 η20 ro20 S20 o20 q20 e20 he => ?_)
      have m20 := q20.2.2.1
      have d20 := dep_le q20
      have vn20 := Er_len e20
      have vd20 := q20.1
      have S21 := SS_pk 4 [1, 3, 2, 0] rfl rfl S20
      refine m_If (by omega) S21 (fun H22 S22 => ?_)
      refine zW_let ?_
      refine yl_Parser_wide_p215 ?_
      unfold yb_Parser_wide_p215
      refine zW_dec (by omega) (by omega) S22 (fun H23 η23 S23 w23 => ?_)
      have vn23 := congrArg List.length w23.2
      have q23 : Qx t (-1) 0 σ20 (psd σ20 (pd σ20 - 1)) := ⟨by show ((pd σ20 - 1 : Nat) : Int) = _; omega, rfl, Nat.le_refl _, Nat.le_refl _⟩
      have vd23 := q23.1
      have d23 : dep t (psd σ20 (pd σ20 - 1)) + 2 * 1 ≤ dep t σ := dep_le (Qx_to (Qx_t q14 (Qx_t q15 (Qx_t q16 (Qx_t q17 (Qx_t q18 (Qx_t q20 q23)))))) (by omega) (by omega))
      refine zW_rQ (hk (gn 9 [[((pc σ).2.1 : Int)]] [t15, t17, t20]) _ _ _ _ (Option.some.inj he).symm ?_ ?_ (Qx_to (Qx_t q14 (Qx_t q15 (Qx_t q16 (Qx_t q17 (Qx_t q18 (Qx_t q20 q23)))))) (by omega) (by omega)) (Er_n (by decide) (Er_e (Er_t (Er_e (Er_t (Er_e (Er_o w14 e15) w16) e17) w18) e20) w23)))
      · rw [ho_gn]; exact SS_mono S23 (by omega) (by omega)
      · exact Or.inl ⟨(by decide : 3 ≤ 9), (by decide : 9 ≤ 20)⟩
    · refine zW_let ?_
      refine zW_tisK 27 129 (by decide) (by omega) S (fun u24 => ?_) (fun u24 => ?_)
      · refine zW_let ?_
        refine zW_tisK 3 130 (by decide) (by omega) S (fun u25 => (tIs_ne (by decide) u24 u25).elim) (fun u25 => ?_)
        refine zW_let ?_
        refine zW_opens (by omega) S (by have := u24.1; omega) (by omega) (by omega) he her (fun lt σ26 H26 η26 S26 p26 w26 he => ?_)
        have q26 : Qx t 1 1 σ σ26 := Qx_to (Qx_o p26) (by omega) (by omega)
        have m26 := q26.2.2.1
        have d26 := dep_op q26 lt
        have v26 := p26.2.1
        have vn26 := congrArg List.length w26.2
        have vd26 := q26.1
        rw [if_neg u1, if_neg u11, if_pos u24] at he
        refine zW_let ?_
        refine zW_t rfl ?_
        refine zW_t rfl ?_
        refine zW_f (by decide) ?_
        refine zW_sub h0 (by omega) S26 hu (by omega) (by omega) he her (fun t27 σ27 H27 η27 ro27 S27 o27 q27 e27 he => ?_)
        have m27 := q27.2.2.1
        have d27 := dep_le q27
        have vn27 := Er_len e27
        have vd27 := q27.1
        refine zW_let ?_
        refine zW_need 5 134 (by decide) (by omega) S27 (by omega) (by omega) he her (fun _ σ28 H28 η28 S28 p28 w28 he => ?_)
        have q28 := Qx_p p28
        have m28 := q28.2.2.1
        have d28 := dep_le q28
        have vn28 := congrArg List.length w28.2
        have vd28 := q28.1
        have S29 := SS_new (kd := 41) (n := 3) (p := []) S28 (by decide) trivial
        refine zW_new ?_
        rw [if_neg (show ¬ (41 : Nat) = 3 by decide)]
        refine zW_sub h0 (by omega) S29 hu (by omega) (by omega) he her (fun t30 σ30 H30 η30 ro30 S30 o30 q30 e30 he => ?_)
        have m30 := q30.2.2.1
        have d30 := dep_le q30
        have vn30 := Er_len e30
        have vd30 := q30.1
        have S31 := SS_pk 3 [1, 2, 0] rfl rfl S30
        refine m_While (by omega) S31 (fun H32 S32 => ?_)
        refine zW_let ?_
        refine yl_Parser_wide_p215 ?_
        unfold yb_Parser_wide_p215
        refine zW_dec (by omega) (by omega) S32 (fun H33 η33 S33 w33 => ?_)
        have vn33 := congrArg List.length w33.2
        have q33 : Qx t (-1) 0 σ30 (psd σ30 (pd σ30 - 1)) := ⟨by show ((pd σ30 - 1 : Nat) : Int) = _; omega, rfl, Nat.le_refl _, Nat.le_refl _⟩
        have vd33 := q33.1
        have d33 : dep t (psd σ30 (pd σ30 - 1)) + 2 * 1 ≤ dep t σ := dep_le (Qx_to (Qx_t q26 (Qx_t q27 (Qx_t q28 (Qx_t q30 q33)))) (by omega) (by omega))
        refine zW_rQ (hk (gn 10 [[((pc σ).2.1 : Int)]] [t27, t30]) _ _ _ _ (Option.some.inj he).symm ?_ ?_ (Qx_to (Qx_t q26 (Qx_t q27 (Qx_t q28 (Qx_t q30 q33)))) (by omega) (by omega)) (Er_n (by decide) (Er_e (Er_t (Er_e (Er_o w26 e27) w28) e30) w33)))
        · rw [ho_gn]; exact SS_mono S33 (by omega) (by omega)
        · exact Or.inl ⟨(by decide : 3 ≤ 10), (by decide : 10 ≤ 20)⟩
      · refine zW_let ?_
        refine zW_tisK 3 130 (by decide) (by omega) S (fun u34 => ?_) (fun u34 => ?_)
        · refine zW_let ?_
          refine zW_opens (by omega) S (by have := u34.1; omega) (by omega) (by omega) he her (fun lt σ35 H35 η35 S35 p35 w35 he => ?_)
          have q35 : Qx t 1 1 σ σ35 := Qx_to (Qx_o p35) (by omega) (by omega)
          have m35 := q35.2.2.1
          have d35 := dep_op q35 lt
          have v35 := p35.2.1
          have vn35 := congrArg List.length w35.2
          have vd35 := q35.1
          rw [if_neg u1, if_neg u11, if_neg u24, if_pos u34] at he
          refine zW_let ?_
          refine zW_t rfl ?_
          refine zW_t rfl ?_
          refine zW_t rfl ?_
          refine zW_f (by decide) ?_
          refine zW_sub h0 (by omega) S35 hu (by omega) (by omega) he her (fun t36 σ36 H36 η36 ro36 S36 o36 q36 e36 he => ?_)
          have m36 := q36.2.2.1
          have d36 := dep_le q36
          have vn36 := Er_len e36
          have vd36 := q36.1
          refine zW_let ?_
          refine zW_need 19 135 (by decide) (by omega) S36 (by omega) (by omega) he her (fun _ σ37 H37 η37 S37 p37 w37 he => ?_)
          have q37 := Qx_p p37
          have m37 := q37.2.2.1
          have d37 := dep_le q37
          have vn37 := congrArg List.length w37.2
          have vd37 := q37.1
          have S38 := SS_new (kd := 42) (n := 4) (p := []) S37 (by decide) trivial
          refine zW_new ?_
          rw [if_neg (show ¬ (42 : Nat) = 3 by decide)]
          refine zW_subl h2 (by omega) S38 hu (by omega) (by omega) he her (fun t39 σ39 H39 η39 ro39 S39 o39 q39 e39 he => ?_)
          have m39 := q39.2.2.1
          have d39 := dep_le q39
          have vn39 := Er_len e39
          have vd39 := q39.1
          have S40 := SS_pk 3 [1, 2, 0] rfl rfl S39
          refine m_Case (by omega) S40 (fun H41 S41 => ?_)
          refine zW_let ?_
          refine yl_Parser_wide_p215 ?_
          unfold yb_Parser_wide_p215
          refine zW_dec (by omega) (by omega) S41 (fun H42 η42 S42 w42 => ?_)
          have vn42 := congrArg List.length w42.2
          have q42 : Qx t (-1) 0 σ39 (psd σ39 (pd σ39 - 1)) := ⟨by show ((pd σ39 - 1 : Nat) : Int) = _; omega, rfl, Nat.le_refl _, Nat.le_refl _⟩
          have vd42 := q42.1
          have d42 : dep t (psd σ39 (pd σ39 - 1)) + 2 * 1 ≤ dep t σ := dep_le (Qx_to (Qx_t q35 (Qx_t q36 (Qx_t q37 (Qx_t q39 q42)))) (by omega) (by omega))
          refine zW_rQ (hk (gn 11 [[((pc σ).2.1 : Int), ((pc σ).2.1 : Int)]] [t36, t39]) _ _ _ _ (Option.some.inj he).symm ?_ ?_ (Qx_to (Qx_t q35 (Qx_t q36 (Qx_t q37 (Qx_t q39 q42)))) (by omega) (by omega)) (Er_n (by decide) (Er_e (Er_t (Er_e (Er_o w35 e36) w37) e39) w42)))
          · rw [ho_gn]; exact SS_mono S42 (by omega) (by omega)
          · exact Or.inl ⟨(by decide : 3 ≤ 11), (by decide : 11 ≤ 20)⟩
        · refine zW_let ?_
          refine zW_opens (by omega) S (tWide_6 wd) (by omega) (by omega) he her (fun lt σ43 H43 η43 S43 p43 w43 he => ?_)
          have q43 : Qx t 1 1 σ σ43 := Qx_to (Qx_o p43) (by omega) (by omega)
          have m43 := q43.2.2.1
          have d43 := dep_op q43 lt
          have v43 := p43.2.1
          have vn43 := congrArg List.length w43.2
          have vd43 := q43.1
          rw [if_neg u1, if_neg u11, if_neg u24, if_neg u34] at he
          refine zW_let ?_
          refine zW_t rfl ?_
          refine zW_t rfl ?_
          refine zW_t rfl ?_
          refine zW_t rfl ?_
          have S44 := SS_new (kd := 45) (n := 3) (p := []) S43 (by decide) trivial
          refine zW_new ?_
          rw [if_neg (show ¬ (45 : Nat) = 3 by decide)]
          refine zW_subl h2 (by omega) S44 hu (by omega) (by omega) he her (fun t45 σ45 H45 η45 ro45 S45 o45 q45 e45 he => ?_)
          have m45 := q45.2.2.1
          have d45 := dep_le q45
          have vn45 := Er_len e45
          have vd45 := q45.1
          have S46 := SS_pk 2 [1, 0] rfl rfl S45
          refine m_Fn (by omega) S46 (fun H47 S47 => ?_)
          refine zW_let ?_
          refine yl_Parser_wide_p215 ?_
          unfold yb_Parser_wide_p215
          refine zW_dec (by omega) (by omega) S47 (fun H48 η48 S48 w48 => ?_)
          have vn48 := congrArg List.length w48.2
          have q48 : Qx t (-1) 0 σ45 (psd σ45 (pd σ45 - 1)) := ⟨by show ((pd σ45 - 1 : Nat) : Int) = _; omega, rfl, Nat.le_refl _, Nat.le_refl _⟩
          have vd48 := q48.1
          have d48 : dep t (psd σ45 (pd σ45 - 1)) + 2 * 1 ≤ dep t σ := dep_le (Qx_to (Qx_t q43 (Qx_t q45 q48)) (by omega) (by omega))
          refine zW_rQ (hk (gn 12 [[((pc σ).2.1 : Int), ((pc σ).2.1 : Int)]] [t45]) _ _ _ _ (Option.some.inj he).symm ?_ ?_ (Qx_to (Qx_t q43 (Qx_t q45 q48)) (by omega) (by omega)) (Er_n (by decide) (Er_e (Er_o w43 e45) w48)))
          · rw [ho_gn]; exact SS_mono S48 (by omega) (by omega)
          · exact Or.inl ⟨(by decide : 3 ≤ 12), (by decide : 12 ≤ 20)⟩
end YExp1
