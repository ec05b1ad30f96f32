set_option maxRecDepth 100000
/-! THE HOUSE'S PARSER: applications, what stands alone (printed by gen/dsl/p74xf.py) -/
def gRwE (t : List Int) (R : PX) (σ : Ps) : PR := pOpens t σ fun σ1 => pB (if pIs σ1 33 then pR (gl []) σ1 else R 15 [] [] σ1) fun l σ2 => pCloses t 33 σ2 fun σ3 => pR (gn 5 [[((pc σ).2.1 : Int)]] (gs l)) σ3
def gLiE (t : List Int) (R : PX) (σ : Ps) : PR := pOpens t σ fun σ1 => pB (if pIs σ1 31 then pR (gl []) σ1 else pB (R 0 [] [] σ1) fun e σ2 => cons1 e (R 14 [34, 0] [] σ2)) fun l σ3 => pCloses t 31 σ3 fun σ4 => pR (gn 19 [[((pc σ).2.1 : Int)]] (gs l)) σ4
theorem tCon_90 {c : Tok} {p : Int} (h : tCon c) : ho (gn (90 + (c.1 - 3)) [[p, c.2.2.2], c.2.2.1] []) = oO 52 [11700, p] [oF 15601 (oT c.1 c.2.2.2 c.2.2.1)] ∧ (90 ≤ 90 + (c.1 - 3) ∧ 90 + (c.1 - 3) ≤ 92) := by
  rw [ho_gn]
  rcases h with h | h | h <;> rw [h] <;> exact ⟨rfl, by decide, by decide⟩
section YExp3
variable {C : YC} {B P O : Nat → Prop} {X : Nat → Nat} {t : List Int} {Γ : Gm} {H H' : YS} {σ σ1 : Ps} {η η1 : Et} {M : List (Gt × Option Nat)} {g h g' h' : Int} {a e c s d dp cap : Nat} {F : List (List Int × Int × Int)} {Q : Option (Option ZV) → YS → Prop} {r : (Int × Nat) ⊕ (Gt × Ps)} {f : Ps → PR} {θ τ : Gt} {w : Option Nat} {l : List Gt} {tk : Tok} {R : PX}
theorem y_appLoop : ∀ (n : Nat), (∀ n', n' ≤ n → YCf C B X t (sP t n' 13 [] []) 149 4 ho okEx) → ∀ (Γ : Gm) (H : YS) (σ : Ps) (η : Et) (M : List (Gt × Option Nat)) (g h : Int) (d : Nat) (Q : Option (Option ZV) → YS → Prop) (r : (Int × Nat) ⊕ (Gt × Ps)) (cap lx : Nat) (f : Gt) (xf : Option Nat) (τs : List Gt), SS C B X t Γ H σ η ((oC cap (τs.map ho), some lx) :: (ho f, xf) :: M) g h → Γ.2.2.2.2 = 0 → ((3 ≤ gk f ∧ gk f ≤ 20) ∨ (90 ≤ gk f ∧ gk f ≤ 92)) → g ≤ 3000 → h + 8 * τs.length ≤ 2960 + 4 * cap → cap ≤ 10 + 2 * τs.length ∧ τs.length + pmu t σ ≤ 999 → dep t σ + 5 ≤ d → pB (sP t n 12 [] [] σ) (fun l σ2 => pR (gn 6 [[gbg f]] (f :: (τs ++ gs l))) σ2) = some r →
      (∀ e p H', r = .inl (e, p) → Th C B X t Γ H' e p → Q none H') →
      (∀ l σ1 H1 η1 ro, r = .inr (gn 6 [[gbg f]] (f :: (τs ++ l)), σ1) → SS C B X t Γ H1 σ1 η1 ((ho (gn 6 [[gbg f]] (f :: (τs ++ l))), ro) :: M) (g + 1 - 9 * l.length) (h + 43 + 8 * τs.length - 4 * cap - 52 * l.length) → Qx t 0 0 σ σ1 → Er η η1 l → (tAt (pF σ) (pc σ) → 1 ≤ l.length) → Q (some (some (.inr (.inr ro)))) H1) → zW (YL C d 598 [zr (X 8), .inr (.inr xf), zr lx] H) Q := by
  intro n
  induction n with
  | zero =>
    intro _ Γ H σ η M g h d Q r cap lx f xf τs S hu hf hg hh hc hd he
    cases he
  | succ n ih =>
    intro h13 Γ H σ η M g h d Q r cap lx f xf τs S hu hf hg hh hc hd he her hk
    have d40 := dep_40 S
    have vl := SS_vl S
    have hmp : (τs.map ho).length = τs.length := List.length_map _
    have he : pB (gAppR (sP t n) σ) (fun l σ2 => pR (gn 6 [[gbg f]] (f :: (τs ++ gs l))) σ2) = some r := he
    unfold gAppR at he
    simp only [pB_pT, pB_ite, pB_pR, pB_pWr, pB_in, pB_ass, pB_pNeed, pB_pOpens, pB_pCloses, pB_pName, pB_pAny, pB_pOpn, pB_pLab, gs_gl, cons1] at he
    refine yl_Parser_app_p22 ?_
    unfold yb_Parser_app_p22
    refine zW_isAt (by omega) S (fun u1 => ?_) (fun u1 => ?_)
    · refine zW_f (by decide) ?_
      rw [if_pos u1] at he
      refine zW_sub (h13 n (by omega)) (by omega) S hu (by omega) (by omega) he her (fun t2 σ2 H2 η2 ro2 S2 o2 q2 e2 he => ?_)
      have m2 := q2.2.2.1
      have d2 := dep_le q2
      have vn2 := Er_len e2
      have vd2 := q2.1
      have S4 := SS_pk 2 [1, 0] rfl rfl S2
      refine zW_add (by omega) (by omega) (okX_G o2) S4 (fun H3 c3 S3 f3 f3' => ?_)
      rw [show τs.map ho ++ [ho t2] = (τs ++ [t2]).map ho by rw [List.map_append]; rfl] at S3
      have hln2 : (τs ++ [t2]).length = τs.length + 1 := by rw [List.length_append]; rfl
      refine ih (fun n' hn' => h13 n' (by omega)) Γ H3 σ2 η2 M _ _ d Q r _ lx f xf (τs ++ [t2]) S3 hu hf (by omega) (by rw [hln2]; omega) ⟨by rw [hln2]; omega, by rw [hln2]; omega⟩ (by omega) (by simp only [List.append_assoc]; exact he) her (fun l σ95 H95 η95 ro95 e95 S95 q95 er95 _ => ?_)
      have hcons : (τs ++ [t2]) ++ l = τs ++ t2 :: l := by rw [List.append_assoc]; rfl
      rw [hcons] at e95 S95
      rw [hln2] at S95
      exact hk (t2 :: l) σ95 H95 η95 ro95 e95 (SS_mono S95 (by rw [List.length_cons]; omega) (by rw [List.length_cons]; omega)) (Qx_to (Qx_t q2 q95) (by omega) (by omega)) (Er_t e2 er95) (fun _ => Nat.succ_pos _)
    · refine zW_t rfl ?_
      rw [if_neg u1] at he
      have S5 := SS_new (kd := 53) (n := 3) (p := []) S (by decide) trivial
      refine zW_new ?_
      rw [if_neg (show ¬ (53 : Nat) = 3 by decide)]
      have S6 := SS_pk 3 [2, 0, 1] rfl rfl S5
      obtain ⟨y7, rfl, hb7⟩ := SS_bgE hf S6
      have S8 := SS_pk 3 [2, 0, 1] rfl rfl S6
      have S9 := SS_oL S8
      have S10 := SS_pk 3 [2, 1, 0] rfl rfl S9
      refine m_Apply hb7 (by omega) S10 (fun H11 S11 => ?_)
      exact zW_rQ (hk [] σ H11 η _ (Option.some.inj he).symm (by rw [List.append_nil, ho_6]; exact SS_mono S11 (by show _ ≤ g + 1 - 9 * ((0 : Nat) : Int); omega) (by show _ ≤ h + 43 + 8 * (τs.length : Int) - 4 * cap - 52 * ((0 : Nat) : Int); omega)) Qx_0 (Er_1 ⟨rfl, rfl⟩) (fun z => absurd z u1))
theorem y_app {n : Nat} (h13 : ∀ n', n' ≤ n → YCf C B X t (sP t n' 13 [] []) 149 4 ho okEx) (hlen : t.length ≤ 900) : YCf C B X t (gApp (sP t n)) 148 5 ho okEx := by
  intro Γ H σ η M g h d Q r S hu hg hh hd he her hk
  have d40 := dep_40 S
  have vl := SS_vl S
  unfold gApp at he
  try simp only [pB_pT, pB_ite, pB_pR, pB_pWr, pB_in, pB_ass, pB_pNeed, pB_pOpens, pB_pCloses, pB_pName, pB_pAny, pB_pOpn, pB_pLab, gs_gl, cons1] at he
  refine yl_Parser_app ?_
  unfold yb_Parser_app
  have hmu := pmu_le (t := t) (σ := σ)
  refine zW_sub (h13 n (Nat.le_refl _)) (by omega) S hu (by omega) (by omega) he her (fun t1 σ1 H1 η1 ro1 S1 o1 q1 e1 he => ?_)
  have m1 := q1.2.2.1
  have d1 := dep_le q1
  have vn1 := Er_len e1
  have vd1 := q1.1
  refine zW_let ?_
  refine zW_isAt (by omega) S1 (fun u2 => ?_) (fun u2 => ?_)
  · refine zW_f (by decide) ?_
    rw [if_pos u2] at he
    refine zW_alnew (by omega) S1 (fun H3 l3 S3 => ?_)
    refine zW_let ?_
    refine y_appLoop n h13 Γ H3 σ1 η1 M _ _ d Q r 0 _ t1 _ [] S3 hu o1 (by omega) (by show _ + 8 * ((0 : Nat) : Int) ≤ _; omega) ⟨by omega, by show 0 + _ ≤ _; omega⟩ (by omega) he her (fun l σ95 H95 η95 ro95 e95 S95 q95 er95 hl => ?_)
    simp only [List.length_nil, List.nil_append] at S95 e95
    have hl1 := hl u2
    exact hk _ σ95 H95 η95 ro95 e95 (SS_mono S95 (by omega) (by omega)) (Or.inl ⟨(by decide : 3 ≤ 6), (by decide : 6 ≤ 20)⟩) (Qx_to (Qx_t q1 q95) (by omega) (by omega)) (Er_n (by decide) (Er_t e1 er95))
  · refine zW_t rfl ?_
    rw [if_neg u2] at he
    exact zW_rQ (hk _ _ _ _ _ (Option.some.inj he).symm (SS_mono S1 (by omega) (by omega)) o1 (Qx_to q1 (by omega) (by omega)) e1)
theorem y_rowE {n : Nat} (hel : ∀ n', n' ≤ n → YCf C B X t (sP t n' 0 [] []) 140 10 ho okEx) (hlen : t.length ≤ 900) : YCf C B X t (nE 32 (gRwE t (sP t n))) 152 3 ho okEx := by
  intro Γ H σ η M g h d Q r S hu hg hh hd he her hk
  have d40 := dep_40 S
  have vl := SS_vl S
  obtain ⟨w, he⟩ := nE_is he
  unfold gRwE at he
  try simp only [pB_pT, pB_ite, pB_pR, pB_pWr, pB_in, pB_ass, pB_pNeed, pB_pOpens, pB_pCloses, pB_pName, pB_pAny, pB_pOpn, pB_pLab, gs_gl, cons1] at he
  refine yl_Parser_row ?_
  unfold yb_Parser_row
  have hmu := pmu_le (t := t) (σ := σ)
  refine zW_opens (by omega) S (by have := w.1; omega) (by omega) (by omega) he her (fun lt σ1 H1 η1 S1 p1 w1 he => ?_)
  have q1 : Qx t 1 1 σ σ1 := Qx_to (Qx_o p1) (by omega) (by omega)
  have m1 := q1.2.2.1
  have d1 := dep_op q1 lt
  have v1 := p1.2.1
  have vn1 := congrArg List.length w1.2
  have vd1 := q1.1
  refine zW_let ?_
  refine zW_alnew (by omega) S1 (fun H2 l2 S2 => ?_)
  refine zW_let ?_
  refine zW_alnew (by omega) S2 (fun H3 l3 S3 => ?_)
  refine zW_let ?_
  refine zW_alnew (by omega) S3 (fun H4 l4 S4 => ?_)
  refine zW_let ?_
  refine zW_tis 33 119 (by decide) (by omega) S4 (fun u5 => ?_) (fun u5 => ?_)
  · rw [if_pos u5] at he
    refine yl_Parser_row_p93 ?_
    unfold yb_Parser_row_p93
    refine zW_closes 33 119 (by decide) (by omega) (by omega) (by omega) S4 (by omega) (by omega) he her (fun _ σ6 H6 η6 S6 p6 w6 he => ?_)
    have q6 : Qx t (-1) 1 σ1 σ6 := Qx_to (Qx_o p6) (by omega) (by omega)
    have m6 := q6.2.2.1
    have v6 := p6.2.1
    have vn6 := congrArg List.length w6.2
    have vd6 := q6.1
    have S7 := SS_new (kd := 47) (n := 4) (p := []) S6 (by decide) trivial
    refine zW_new ?_
    rw [if_neg (show ¬ (47 : Nat) = 3 by decide)]
    have S8 := SS_pk 4 [3, 0, 1, 2] rfl rfl S7
    have S9 := SS_oL S8
    have S10 := SS_pk 4 [3, 0, 1, 2] rfl rfl S9
    have S11 := SS_oL S10
    have S12 := SS_pk 4 [3, 0, 1, 2] rfl rfl S11
    have S13 := SS_oL S12
    have S14 := SS_pk 4 [3, 2, 1, 0] rfl rfl S13
    refine m_RowExp (by omega) S14 (fun H15 S15 => ?_)
    refine zW_rQ (hk (gn 5 [[((pc σ).2.1 : Int)]] []) _ _ _ _ (Option.some.inj he).symm ?_ ?_ (Qx_to (Qx_t q1 q6) (by omega) (by omega)) (Er_n (by decide) (Er_1 ⟨w6.1.trans w1.1, w6.2.trans w1.2⟩)))
    · rw [ho_5]; exact SS_mono S15 (by omega) (by omega)
    · exact Or.inl ⟨(by decide : 3 ≤ 5), (by decide : 5 ≤ 20)⟩
  · rw [if_neg u5] at he
    refine y_fld (k := 0) (kk := 15) (mth := 140) (lev := 10) (m0 := 40) (j0 := 1) (ok := okEx) (fun _ _ o => okX_G o) (by decide) (fun n σ => rfl) 603 ((pc σ).2.1 : Int) (fun d al ap at' H => YL C d 604 [zr (X 8), .inl ((pc σ).2.1 : Int), zr al, zr ap, zr at'] H) (fun d H al ap at' Q hq => yl_Parser_row_p43 hq) n hel Γ H4 σ1 η1 M _ _ d Q r 0 0 0 _ _ _ [] (fun l σ2 => pCloses t 33 σ2 fun σ3 => pR (gn 5 [[((pc σ).2.1 : Int)]] l) σ3) S4 hu (by omega) (by show _ + 24 * 0 ≤ _; omega) ⟨by omega, by omega, by omega⟩ (by show 0 + _ ≤ _; omega) (by omega) he her (fun l16 σ16 H16 η16 cl16 cp16 ct16 S16 n16 q16 e16 he => ?_)
    simp only [List.length_nil, List.nil_append] at S16
    try simp only [List.nil_append] at he
    have m16 := q16.2.2.1
    have vn16 := Er_len e16
    have vd16 := q16.1
    have g16 : 1 ≤ l16.length := List.length_pos_iff.mpr n16
    refine yl_Parser_row_p93 ?_
    unfold yb_Parser_row_p93
    refine zW_closes 33 119 (by decide) (by omega) (by omega) (by omega) S16 (by omega) (by omega) he her (fun _ σ17 H17 η17 S17 p17 w17 he => ?_)
    have q17 : Qx t (-1) 1 σ16 σ17 := Qx_to (Qx_o p17) (by omega) (by omega)
    have m17 := q17.2.2.1
    have v17 := p17.2.1
    have vn17 := congrArg List.length w17.2
    have vd17 := q17.1
    have S18 := SS_new (kd := 47) (n := 4) (p := []) S17 (by decide) trivial
    refine zW_new ?_
    rw [if_neg (show ¬ (47 : Nat) = 3 by decide)]
    have S19 := SS_pk 4 [3, 0, 1, 2] rfl rfl S18
    have S20 := SS_oL S19
    have S21 := SS_pk 4 [3, 0, 1, 2] rfl rfl S20
    have S22 := SS_oL S21
    have S23 := SS_pk 4 [3, 0, 1, 2] rfl rfl S22
    have S24 := SS_oL S23
    have S25 := SS_pk 4 [3, 2, 1, 0] rfl rfl S24
    refine m_RowExp (by omega) S25 (fun H26 S26 => ?_)
    refine zW_rQ (hk (gn 5 [[((pc σ).2.1 : Int)]] l16) _ _ _ _ (Option.some.inj he).symm ?_ ?_ (Qx_to (Qx_t q1 (Qx_t q16 q17)) (by omega) (by omega)) (Er_n (by decide) (Er_e (Er_o w1 e16) w17)))
    · rw [ho_5]; exact SS_mono S26 (by omega) (by omega)
    · exact Or.inl ⟨(by decide : 3 ≤ 5), (by decide : 5 ≤ 20)⟩
theorem y_listE {n : Nat} (hel : ∀ n', n' ≤ n → YCf C B X t (sP t n' 0 [] []) 140 10 ho okEx) (hlen : t.length ≤ 900) : YCf C B X t (nE 30 (gLiE t (sP t n))) 153 3 ho okEx := by
  intro Γ H σ η M g h d Q r S hu hg hh hd he her hk
  have d40 := dep_40 S
  have vl := SS_vl S
  obtain ⟨w, he⟩ := nE_is he
  unfold gLiE at he
  try simp only [pB_pT, pB_ite, pB_pR, pB_pWr, pB_in, pB_ass, pB_pNeed, pB_pOpens, pB_pCloses, pB_pName, pB_pAny, pB_pOpn, pB_pLab, gs_gl, cons1] at he
  refine yl_Parser_list ?_
  unfold yb_Parser_list
  have hmu := pmu_le (t := t) (σ := σ)
  refine zW_opens (by omega) S (by have := w.1; omega) (by omega) (by omega) he her (fun lt σ1 H1 η1 S1 p1 w1 he => ?_)
  have q1 : Qx t 1 1 σ σ1 := Qx_to (Qx_o p1) (by omega) (by omega)
  have m1 := q1.2.2.1
  have d1 := dep_op q1 lt
  have v1 := p1.2.1
  have vn1 := congrArg List.length w1.2
  have vd1 := q1.1
  refine zW_let ?_
  refine zW_alnew (by omega) S1 (fun H2 l2 S2 => ?_)
  refine zW_let ?_
  refine zW_tis 31 126 (by decide) (by omega) S2 (fun u3 => ?_) (fun u3 => ?_)
  · rw [if_pos u3] at he
    refine yl_Parser_list_p45 ?_
    unfold yb_Parser_list_p45
    refine zW_closes 31 126 (by decide) (by omega) (by omega) (by omega) S2 (by omega) (by omega) he her (fun _ σ4 H4 η4 S4 p4 w4 he => ?_)
    have q4 : Qx t (-1) 1 σ1 σ4 := Qx_to (Qx_o p4) (by omega) (by omega)
    have m4 := q4.2.2.1
    have v4 := p4.2.1
    have vn4 := congrArg List.length w4.2
    have vd4 := q4.1
    have S5 := SS_new (kd := 48) (n := 2) (p := []) S4 (by decide) trivial
    refine zW_new ?_
    rw [if_neg (show ¬ (48 : Nat) = 3 by decide)]
    have S6 := SS_pk 2 [1, 0] rfl rfl S5
    have S7 := SS_oL S6
    have S8 := SS_pk 2 [1, 0] rfl rfl S7
    refine m_ListExp (by omega) S8 (fun H9 S9 => ?_)
    refine zW_rQ (hk (gn 19 [[((pc σ).2.1 : Int)]] []) _ _ _ _ (Option.some.inj he).symm ?_ ?_ (Qx_to (Qx_t q1 q4) (by omega) (by omega)) (Er_n (by decide) (Er_1 ⟨w4.1.trans w1.1, w4.2.trans w1.2⟩)))
    · rw [ho_19]; exact SS_mono S9 (by omega) (by omega)
    · exact Or.inl ⟨(by decide : 3 ≤ 19), (by decide : 19 ≤ 20)⟩
  · rw [if_neg u3] at he
    have he : pB (sP t n 0 [] [] σ1) (fun x σ1 => pB (sP t n 14 [((34 : Nat) : Int), ((0 : Nat) : Int)] [] σ1) fun l σ2 => (fun l σ2 => pCloses t 31 σ2 fun σ3 => pR (gn 19 [[((pc σ).2.1 : Int)]] l) σ3) ([] ++ x :: gs l) σ2) = some r := he
    have S90 : SS C B X t Γ H2 σ1 η1 ((oC 0 (([] : List Gt).map ho), some l2) :: M) _ _ := S2
    refine y_sep (k := 0) (mth := 140) (lev := 10) (im := ho) (ok := okEx) (P := fun τ => (3 ≤ gk τ ∧ gk τ ≤ 20) ∨ (90 ≤ gk τ ∧ gk τ ≤ 92)) (fun _ _ o => ⟨okX_G o, o⟩) 34 118 (by decide) 605 (fun a => [.inl ((pc σ).2.1 : Int), zr a]) (fun d a H => YL C d 606 [zr (X 8), .inl ((pc σ).2.1 : Int), zr a] H) (fun d H a Q hq => yl_Parser_list_p26 hq) n hel Γ H2 σ1 η1 _ _ _ d Q r _ _ [] (fun l σ2 => pCloses t 31 σ2 fun σ3 => pR (gn 19 [[((pc σ).2.1 : Int)]] l) σ3) S90 hu (by omega) (by show _ + 8 * 0 ≤ _; omega) (by omega) (by show 0 + _ ≤ _; omega) (by omega) he her (fun l10 σ10 H10 η10 c10 S10 n10 P10 q10 e10 z10 he => ?_)
    simp only [List.length_nil, List.nil_append] at S10 z10
    try simp only [List.nil_append] at he
    have m10 := q10.2.2.1
    have d10 := dep_le q10
    have vn10 := Er_len e10
    have vd10 := q10.1
    have g10 : 1 ≤ l10.length := List.length_pos_iff.mpr n10
    refine yl_Parser_list_p45 ?_
    unfold yb_Parser_list_p45
    refine zW_closes 31 126 (by decide) (by omega) (by omega) (by omega) S10 (by omega) (by omega) he her (fun _ σ11 H11 η11 S11 p11 w11 he => ?_)
    have q11 : Qx t (-1) 1 σ10 σ11 := Qx_to (Qx_o p11) (by omega) (by omega)
    have m11 := q11.2.2.1
    have v11 := p11.2.1
    have vn11 := congrArg List.length w11.2
    have vd11 := q11.1
    have S12 := SS_new (kd := 48) (n := 2) (p := []) S11 (by decide) trivial
    refine zW_new ?_
    rw [if_neg (show ¬ (48 : Nat) = 3 by decide)]
    have S13 := SS_pk 2 [1, 0] rfl rfl S12
    have S14 := SS_oL S13
    have S15 := SS_pk 2 [1, 0] rfl rfl S14
    refine m_ListExp (by omega) S15 (fun H16 S16 => ?_)
    refine zW_rQ (hk (gn 19 [[((pc σ).2.1 : Int)]] l10) _ _ _ _ (Option.some.inj he).symm ?_ ?_ (Qx_to (Qx_t q1 (Qx_t q10 q11)) (by omega) (by omega)) (Er_n (by decide) (Er_e (Er_o w1 e10) w11)))
    · rw [ho_19]; exact SS_mono S16 (by omega) (by omega)
    · exact Or.inl ⟨(by decide : 3 ≤ 19), (by decide : 19 ≤ 20)⟩
theorem y_bracketE {n : Nat} (hel : ∀ n', n' ≤ n → YCf C B X t (sP t n' 0 [] []) 140 10 ho okEx) (hlen : t.length ≤ 900) : YCf C B X t (nE 28 (gBrE t (sP t n))) 151 3 ho okEx := by
  intro Γ H σ η M g h d Q r S hu hg hh hd he her hk
  have d40 := dep_40 S
  have vl := SS_vl S
  obtain ⟨w, he⟩ := nE_is he
  unfold gBrE at he
  try simp only [pB_pT, pB_ite, pB_pR, pB_pWr, pB_in, pB_ass, pB_pNeed, pB_pOpens, pB_pCloses, pB_pName, pB_pAny, pB_pOpn, pB_pLab, gs_gl, cons1] at he
  refine yl_Parser_bracket ?_
  unfold yb_Parser_bracket
  have hmu := pmu_le (t := t) (σ := σ)
  refine zW_opens (by omega) S (by have := w.1; omega) (by omega) (by omega) he her (fun lt σ1 H1 η1 S1 p1 w1 he => ?_)
  have q1 : Qx t 1 1 σ σ1 := Qx_to (Qx_o p1) (by omega) (by omega)
  have m1 := q1.2.2.1
  have d1 := dep_op q1 lt
  have v1 := p1.2.1
  have vn1 := congrArg List.length w1.2
  have vd1 := q1.1
  refine zW_let ?_
  refine zW_alnew (by omega) S1 (fun H2 l2 S2 => ?_)
  refine zW_let ?_
  refine zW_let ?_
  refine zW_tis 29 117 (by decide) (by omega) S2 (fun u3 => ?_) (fun u3 => ?_)
  · rw [if_pos u3] at he
    rw [← gBrX_e (x3 := 0)] at he
    have S90 : SS C B X t Γ H2 σ1 η1 ((oC 0 (([] : List Gt).map ho), some l2) :: M) _ _ := S2
    refine y_602 (l := []) (Or.inl rfl) (by omega) (by decide) (fun x q => by cases q) (by omega) (by omega) S90 (by omega) (by omega) he her (fun σ9 H9 η9 ro9 hr S9 p9 w9 => hk _ σ9 H9 η9 ro9 hr (SS_mono S9 ?_ ?_) (gBrX_ok (l := []) (fun x q => by cases q)) (Qx_to (Qx_t q1 (Qx_o p9)) (by omega) (by omega)) (Er_c (gms_brX (l := []) (fun x q => by cases q)).symm (gms_brX (l := []) (fun x q => by cases q)).symm (Er_e (Er_1 w1) w9)))
    · show _ - 27 + 9 * ((0 : Nat) : Int) ≤ _; omega
    · show _ - 150 + 34 * ((0 : Nat) : Int) ≤ _; omega
  · rw [if_neg u3] at he
    refine zW_sub (hel n (Nat.le_refl _)) (by omega) S2 hu (by omega) (by omega) he her (fun t4 σ4 H4 η4 ro4 S4 o4 q4 e4 he => ?_)
    have m4 := q4.2.2.1
    have d4 := dep_le q4
    have vn4 := Er_len e4
    have vd4 := q4.1
    have S6 := SS_pk 2 [1, 0] rfl rfl S4
    refine zW_add (by omega) (by omega) (okX_G o4) S6 (fun H5 c5 S5 f5 f5' => ?_)
    refine zW_tisK 34 118 (by decide) (by omega) S5 (fun u7 => ?_) (fun u7 => ?_)
    · refine zW_let ?_
      refine zW_f (by decide) ?_
      refine zW_let ?_
      have lz : ([] : List Gt).length = 0 := rfl
      simp only [if_pos u7, gBrX_1] at he
      have he : pB (sP t n 14 [((34 : Nat) : Int), ((0 : Nat) : Int)] [] σ4) (fun l σ2 => (fun l σ2 => pCloses t 29 σ2 fun σ4 => pR (gBrX 1 (pc σ).2.1 l) σ4) ([t4] ++ gs l) σ2) = some r := he
      refine y_sq (k := 0) (mth := 140) (lev := 10) (im := ho) (ok := okEx) (P := fun τ => (3 ≤ gk τ ∧ gk τ ≤ 20) ∨ (90 ≤ gk τ ∧ gk τ ≤ 92)) (fun _ _ o => ⟨okX_G o, o⟩) 34 118 (by decide) 601 (fun a => [.inl ((pc σ).2.1 : Int), zr a, .inl 1, .inr (.inr (some (C.1 118)))]) (fun d a H => YL C d 602 [zr (X 8), .inl ((pc σ).2.1 : Int), zr a, .inl 1] H) (fun d H a Q hq => yl_Parser_bracket_p62 hq) n hel Γ H5 σ4 η4 _ _ _ d Q r _ _ [t4] (fun l σ2 => pCloses t 29 σ2 fun σ4 => pR (gBrX 1 (pc σ).2.1 l) σ4) S5 hu (by omega) (by show _ + 8 * ((1 : Nat) : Int) ≤ _; omega) (by show _ ≤ 10 + 2 * 1; omega) (by show 1 + _ ≤ _; omega) (by omega) he her (fun l σ8 H8 η8 c8 S8 P8 q8 e8 z8 he => ?_)
      have g8 : 8 * (([t4] : List Gt).length : Int) = 8 := rfl
      rw [g8] at S8
      have z8 : l.length + 1 + pmu t σ8 ≤ 999 := by rw [List.length_append] at z8; have : ([t4] : List Gt).length = 1 := rfl; omega
      have vn8 := Er_len e8
      have vd8 := q8.1
      have hP : ∀ x ∈ [t4] ++ l, (3 ≤ gk x ∧ gk x ≤ 20) ∨ (90 ≤ gk x ∧ gk x ≤ 92) := fun x hx => (List.mem_cons.mp hx).elim (fun q => by rw [q]; exact o4) (P8 x)
      have hll : ([t4] ++ l).length = l.length + 1 := rfl
      refine y_602 (Or.inr rfl) (by omega) (by rw [hll]; omega) hP (by omega) (by omega) S8 (by omega) (by omega) he her (fun σ9 H9 η9 ro9 hr S9 p9 w9 => hk _ σ9 H9 η9 ro9 hr (SS_mono S9 ?_ ?_) (gBrX_ok hP) (Qx_to (Qx_t (Qx_t q1 q4) (Qx_t q8 (Qx_o p9))) (by omega) (by omega)) (Er_c (gms_brX hP).symm (gms_brX hP).symm (Er_e (Er_t (Er_o w1 e4) e8) w9)))
      · rw [hll]; omega
      · rw [hll]; omega
    · refine zW_let ?_
      refine zW_t rfl ?_
      refine zW_let ?_
      have lz : ([] : List Gt).length = 0 := rfl
      simp only [if_neg u7, gBrX_0] at he
      have he : pB (sP t n 14 [((35 : Nat) : Int), ((0 : Nat) : Int)] [] σ4) (fun l σ2 => (fun l σ2 => pCloses t 29 σ2 fun σ4 => pR (gBrX 0 (pc σ).2.1 l) σ4) ([t4] ++ gs l) σ2) = some r := he
      refine y_sq (k := 0) (mth := 140) (lev := 10) (im := ho) (ok := okEx) (P := fun τ => (3 ≤ gk τ ∧ gk τ ≤ 20) ∨ (90 ≤ gk τ ∧ gk τ ≤ 92)) (fun _ _ o => ⟨okX_G o, o⟩) 35 140 (by decide) 601 (fun a => [.inl ((pc σ).2.1 : Int), zr a, .inl 0, .inr (.inr (some (C.1 140)))]) (fun d a H => YL C d 602 [zr (X 8), .inl ((pc σ).2.1 : Int), zr a, .inl 0] H) (fun d H a Q hq => yl_Parser_bracket_p62 hq) n hel Γ H5 σ4 η4 _ _ _ d Q r _ _ [t4] (fun l σ2 => pCloses t 29 σ2 fun σ4 => pR (gBrX 0 (pc σ).2.1 l) σ4) S5 hu (by omega) (by show _ + 8 * ((1 : Nat) : Int) ≤ _; omega) (by show _ ≤ 10 + 2 * 1; omega) (by show 1 + _ ≤ _; omega) (by omega) he her (fun l σ9 H9 η9 c9 S9 P9 q9 e9 z9 he => ?_)
      have g9 : 8 * (([t4] : List Gt).length : Int) = 8 := rfl
      rw [g9] at S9
      have z9 : l.length + 1 + pmu t σ9 ≤ 999 := by rw [List.length_append] at z9; have : ([t4] : List Gt).length = 1 := rfl; omega
      have vn9 := Er_len e9
      have vd9 := q9.1
      have hP : ∀ x ∈ [t4] ++ l, (3 ≤ gk x ∧ gk x ≤ 20) ∨ (90 ≤ gk x ∧ gk x ≤ 92) := fun x hx => (List.mem_cons.mp hx).elim (fun q => by rw [q]; exact o4) (P9 x)
      have hll : ([t4] ++ l).length = l.length + 1 := rfl
      refine y_602 (Or.inl rfl) (by omega) (by rw [hll]; omega) hP (by omega) (by omega) S9 (by omega) (by omega) he her (fun σ9 H9 η9 ro9 hr S9 p9 w9 => hk _ σ9 H9 η9 ro9 hr (SS_mono S9 ?_ ?_) (gBrX_ok hP) (Qx_to (Qx_t (Qx_t q1 q4) (Qx_t q9 (Qx_o p9))) (by omega) (by omega)) (Er_c (gms_brX hP).symm (gms_brX hP).symm (Er_e (Er_t (Er_o w1 e4) e9) w9)))
      · rw [hll]; omega
      · rw [hll]; omega
end YExp3
