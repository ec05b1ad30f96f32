set_option maxRecDepth 100000
/-! THE HOUSE'S PARSER: patterns of rows (printed by gen/dsl/p74xc.py) -/
theorem ho_31z {p q z : Int} {b : List Int} : oO 33 [7500, p, 9902, q, 9903, z] [oF 9901 (oS b)] = ho (gn 31 [[p, q, z], b] []) := ho_31.symm
def gShort (t : List Int) (R : PX) (nm : Int) (pl : Nat) (lb : List Int) (fK : Gt → Ps → PR) (σ : Ps) : PR := if nm ≠ 1 then pWr σ else if pIs σ 38 then pT (pPass t σ) fun σ2 => pB (R 30 [] [] σ2) fun y σ3 => if pIs σ3 2 then pT (pPass t σ3) fun σ5 => pB (R 20 [] [] σ5) fun q σ6 => fK (gn 37 [[(pl : Int), (pl : Int)], lb] [q, y]) σ6 else fK (gn 38 [[(pl : Int)]] [gn 31 [[(pl : Int), (pl : Int), 1], lb] [], y]) σ3 else if pIs σ 2 then pT (pPass t σ) fun σ5 => pB (R 20 [] [] σ5) fun q σ6 => fK (gn 37 [[(pl : Int), (pl : Int)], lb] [q]) σ6 else fK (gn 31 [[(pl : Int), (pl : Int), 1], lb] []) σ
section YPat4
variable {C : YC} {B P O : Nat → Prop} {X : Nat → Nat} {t : List Int} {Γ : Gm} {H H' : YS} {σ σ1 : Ps} {η η1 : Et} {M : List (Gt × Option Nat)} {g h g' h' : Int} {a e c s d dp cap : Nat} {F : List (List Int × Int × Int)} {Q : Option (Option ZV) → YS → Prop} {r : (Int × Nat) ⊕ (Gt × Ps)} {f : Ps → PR} {θ τ : Gt} {w : Option Nat} {l : List Gt} {tk : Tok} {R : PX}
theorem zW_short0 {kk : Option Nat → YS → ZR YS} {nm : Int} {pl s : Nat} {lb : List Int} {fK : Gt → Ps → PR} (h30 : YCf C B X t (R 30 [] []) 126 4 ho okTy) (h20 : YCf C B X t (R 20 [] []) 109 10 ho okPa) (hnm : nm = 0 ∨ nm = 1) (hd : dep t σ + 10 ≤ d) (S : SS C B X t Γ H σ η ((oS lb, some s) :: M) g h) (hu : Γ.2.2.2.2 = 0) (hg : g ≤ 3000) (hh : h ≤ 3000) (he : gShort t R nm pl lb fK σ = some r) (her : ∀ e p H', r = .inl (e, p) → Th C B X t Γ H' e p → Q none H')
    (hk : ∀ τ σ1 H1 η1 ro, SS C B X t Γ H1 σ1 η1 ((ho τ, ro) :: M) (g + 3) (h + 12) → (30 ≤ gk τ ∧ gk τ ≤ 41) → Qx t 0 0 σ σ1 → Er η η1 [τ] → fK τ σ1 = some r → zW (kk ro H1) Q) : zW (zQ (ycv (YL C) d [(6, 125)] (some (X 8)) [.inl nm, .inr (.inr (some s)), .inl (pl : Int)] H) kk) Q := by
  have d40 := dep_40 S
  obtain ⟨d, rfl⟩ : ∃ e, d = e + 1 := ⟨d - 1, by omega⟩
  rw [ycv_s (SS_8 S) ⟨by decide, rfl⟩]
  refine zW_Q (P := fun ro H1 => ∃ τ σ1 η1, SS C B X t Γ H1 σ1 η1 ((ho τ, ro) :: M) (g + 3) (h + 12) ∧ (30 ≤ gk τ ∧ gk τ ≤ 41) ∧ Qx t 0 0 σ σ1 ∧ Er η η1 [τ] ∧ fK τ σ1 = some r) (T := fun H1 => Q none H1) (zW_c (yl_Parser_short0 ?_)) (fun ro H1 ⟨τ, σ1, η1, w1, w2, w3, w4, w5⟩ => hk τ σ1 H1 η1 ro w1 w2 w3 w4 w5) (fun _ q => q)
  unfold gShort at he
  unfold yb_Parser_short0
  refine zW_if (fun h0 => ?_) (fun h0 => ?_)
  · rw [if_pos (by omega)] at he
    exact zW_wr (by omega) S (by omega) (by omega) he her
  · rw [if_neg (by omega)] at he
    refine zW_takes 38 122 (by decide) (by omega) S (by omega) (by omega) he her (fun u1 he => ?_) (fun u1 σ1 H1 η1 S1 p1 w1 he => ?_)
    · refine yl_Parser_short0_p27 ?_
      unfold yb_Parser_short0_p27
      refine zW_let ?_
      refine zW_takes 2 125 (by decide) (by omega) S (by omega) (by omega) he her (fun u2 he => ?_) (fun u2 σ2 H2 η2 S2 p2 w2 he => ?_)
      · have S3 := SS_new (kd := 33) (n := 6) (p := []) S (by decide) trivial
        refine zW_new ?_
        rw [if_neg (show ¬ (33 : Nat) = 3 by decide)]
        refine m_NamePat (by omega) (by omega) S3 (fun H4 S4 => ?_)
        refine zW_let ?_
        refine zW_n0 ?_
        refine zW_rQ ⟨gn 31 [[(pl : Int), (pl : Int), 1], lb] [], _, _, ?_, ⟨(by decide : 30 ≤ 31), (by decide : 31 ≤ 41)⟩, (Qx_to Qx_0 (by omega) (by omega)), Er_n (by decide) (Er_1 ⟨rfl, rfl⟩), he⟩
        rw [ho_gn]; exact SS_mono S4 (by omega) (by omega)
      · have q2 := Qx_p p2
        have m2 := q2.2.2.1
        have d2 := dep_le q2
        have vn2 := congrArg List.length w2.2
        have vd2 := q2.1
        have S5 := SS_new (kd := 32) (n := 6) (p := []) S2 (by decide) trivial
        refine zW_new ?_
        rw [if_neg (show ¬ (32 : Nat) = 3 by decide)]
        refine zW_sub h20 (by omega) S5 hu (by omega) (by omega) he her (fun t6 σ6 H6 η6 ro6 S6 o6 q6 e6 he => ?_)
        have m6 := q6.2.2.1
        have d6 := dep_le q6
        have vn6 := Er_len e6
        have vd6 := q6.1
        have S7 := SS_no S6
        have S8 := SS_pk 4 [2, 3, 0, 1] rfl rfl S7
        refine m_AsPat (by omega) S8 (fun H9 S9 => ?_)
        refine zW_rQ ⟨gn 37 [[(pl : Int), (pl : Int)], lb] [t6], _, _, ?_, ⟨(by decide : 30 ≤ 37), (by decide : 37 ≤ 41)⟩, (Qx_to (Qx_t q2 q6) (by omega) (by omega)), Er_c gms_37.symm gms_37.symm (Er_o w2 e6), he⟩
        rw [ho_gn]; exact SS_mono S9 (by omega) (by omega)
    · have q1 := Qx_p p1
      have m1 := q1.2.2.1
      have d1 := dep_le q1
      have vn1 := congrArg List.length w1.2
      have vd1 := q1.1
      refine zW_sub h30 (by omega) S1 (Or.inl hu) (by omega) (by omega) he her (fun t10 σ10 H10 η10 ro10 S10 o10 q10 e10 he => ?_)
      have m10 := q10.2.2.1
      have d10 := dep_le q10
      have vn10 := Er_len e10
      have vd10 := q10.1
      refine yl_Parser_short0_p27 ?_
      unfold yb_Parser_short0_p27
      refine zW_let ?_
      refine zW_takes 2 125 (by decide) (by omega) S10 (by omega) (by omega) he her (fun u11 he => ?_) (fun u11 σ11 H11 η11 S11 p11 w11 he => ?_)
      · have S12 := SS_new (kd := 33) (n := 6) (p := []) S10 (by decide) trivial
        refine zW_new ?_
        rw [if_neg (show ¬ (33 : Nat) = 3 by decide)]
        have S13 := SS_pk 3 [0, 2, 1] rfl rfl S12
        refine m_NamePat (by omega) (by omega) S13 (fun H14 S14 => ?_)
        have S15 := S14
        rw [ho_31z] at S15
        refine zW_let ?_
        have S16 := SS_pk 2 [1, 0] rfl rfl S15
        obtain ⟨y17, rfl, -⟩ := SS_kT o10 S16
        refine zW_nn ?_
        have S18 := SS_new (kd := 34) (n := 3) (p := []) S16 (by decide) trivial
        refine zW_new ?_
        rw [if_neg (show ¬ (34 : Nat) = 3 by decide)]
        have S19 := SS_pk 3 [2, 0, 1] rfl rfl S18
        obtain ⟨y20, ey20, hb20⟩ := SS_bgP (show 30 ≤ gk (gn 31 [[(pl : Int), (pl : Int), 1], lb] []) ∧ gk (gn 31 [[(pl : Int), (pl : Int), 1], lb] []) ≤ 41 from ⟨(by decide : 30 ≤ 31), (by decide : 31 ≤ 41)⟩) S19
        rw [← Option.some.inj ey20] at hb20
        have S21 := SS_pk 3 [1, 0, 2] rfl rfl S19
        refine m_TypedPat hb20 (by omega) S21 (fun H22 S22 => ?_)
        refine zW_rQ ⟨gn 38 [[(pl : Int)]] [gn 31 [[(pl : Int), (pl : Int), 1], lb] [], t10], _, _, ?_, ⟨(by decide : 30 ≤ 38), (by decide : 38 ≤ 41)⟩, (Qx_to (Qx_t q1 q10) (by omega) (by omega)), Er_n (by decide) (Er_c (gms_nm false).symm (gms_nm true).symm (Er_o w1 e10)), he⟩
        rw [ho_38]; exact SS_mono S22 (by omega) (by omega)
      · have q11 := Qx_p p11
        have m11 := q11.2.2.1
        have d11 := dep_le q11
        have vn11 := congrArg List.length w11.2
        have vd11 := q11.1
        have S23 := SS_new (kd := 32) (n := 6) (p := []) S11 (by decide) trivial
        refine zW_new ?_
        rw [if_neg (show ¬ (32 : Nat) = 3 by decide)]
        refine zW_sub h20 (by omega) S23 hu (by omega) (by omega) he her (fun t24 σ24 H24 η24 ro24 S24 o24 q24 e24 he => ?_)
        have m24 := q24.2.2.1
        have d24 := dep_le q24
        have vn24 := Er_len e24
        have vd24 := q24.1
        have S25 := SS_pk 4 [1, 3, 2, 0] rfl rfl S24
        refine m_AsPat (by omega) S25 (fun H26 S26 => ?_)
        refine zW_rQ ⟨gn 37 [[(pl : Int), (pl : Int)], lb] [t24, t10], _, _, ?_, ⟨(by decide : 30 ≤ 37), (by decide : 37 ≤ 41)⟩, (Qx_to (Qx_t q1 (Qx_t q10 (Qx_t q11 q24))) (by omega) (by omega)), Er_c gms_37.symm gms_37.symm (Er_t (Er_e (Er_o w1 e10) w11) e24), he⟩
        rw [ho_gn]; exact SS_mono S26 (by omega) (by omega)
theorem y_rowPs (p0 : Int) : ∀ (n : Nat), (∀ n', n' ≤ n → YCf C B X t (sP t n' 30 [] []) 126 4 ho okTy) → (∀ n', n' ≤ n → YCf C B X t (sP t n' 20 [] []) 109 10 ho okPa) → ∀ (Γ : Gm) (H : YS) (σ : Ps) (η : Et) (M : List (Gt × Option Nat)) (g h : Int) (d : Nat) (Q : Option (Option ZV) → YS → Prop) (r : (Int × Nat) ⊕ (Gt × Ps)) (cl cp ct al ap at' : Nat) (τs : List Gt) (fT : Nat → List Gt → Ps → PR), SS C B X t Γ H σ η ((oC ct (τs.map ho), some at') :: (oC cp (fdP τs), some ap) :: (oC cl (fdL τs), some al) :: M) g h → Γ.2.2.2.2 = 0 → g ≤ 3000 → h + 24 * τs.length ≤ 2880 + 4 * ct + 4 * cp + 4 * cl → (cl ≤ 10 + 2 * τs.length ∧ cp ≤ 10 + 2 * τs.length ∧ ct ≤ 10 + 2 * τs.length) → τs.length + pmu t σ ≤ 999 → dep t σ + 12 ≤ d → pB (sP t n 27 [] [] σ) (fun l σ2 => fT (gk l) (τs ++ gs l) σ2) = some r →
      (∀ e p H', r = .inl (e, p) → Th C B X t Γ H' e p → Q none H') →
      (∀ (o : Nat) l σ2 H2 η2 cl2 cp2 ct2, SS C B X t Γ H2 σ2 η2 ((oC ct2 ((τs ++ l).map ho), some at') :: (oC cp2 (fdP (τs ++ l)), some ap) :: (oC cl2 (fdL (τs ++ l)), some al) :: M) (g + 20 - 30 * l.length) (h + 20 + 24 * τs.length - 4 * ct - 4 * cp - 4 * cl) → (o = 0 ∨ o = 1) → (∀ x ∈ l, gk x = 60) → Qx t 0 1 σ σ2 → Er η η2 l → fT o (τs ++ l) σ2 = some r → zW (YL C d 796 [zr (X 8), .inl p0, zr al, zr ap, zr at', .inl (o : Int)] H2) Q) → zW (YL C d 575 [zr (X 8), .inl p0, zr al, zr ap, zr at', .inl 0, .inl 1] H) Q := by
  intro n
  induction n with
  | zero =>
    intro _ _ Γ H σ η M g h d Q r cl cp ct al ap at' τs fT S hu hg hh hc hl hd he
    cases he
  | succ n ih =>
    intro h30 h20 Γ H σ η M g h d Q r cl cp ct al ap at' τs fT S hu hg hh hc hl hd he her hT
    have d40 := dep_40 S
    have vl := SS_vl S
    have hlt : (pc σ).2.1 < 2147483648 := by
      have h1 := S.1.2.2.1
      have h2 := S.1.2.2.2.2.2.2
      have h3 := h1.2.2.2.1
      have h4 := h1.2.2.1.1
      omega
    have fl := fd_len (s := τs)
    have hmp : (τs.map ho).length = τs.length := List.length_map _
    have he : pB (gRowP t (sP t n) σ) (fun l σ2 => fT (gk l) (τs ++ gs l) σ2) = some r := he
    unfold gRowP gFldP at he
    simp only [pB_pT, pB_ite, pB_pR, pB_pWr, pB_in, pB_ass, pB_pNeed, pB_pOpens, pB_pCloses, pB_pName, pB_pAny, pB_pOpn, pB_pLab, gs_gl, cons1, gs_gn, gk_gn] at he
    refine yl_Parser_rowPat_p53 ?_
    unfold yb_Parser_rowPat_p53
    refine zW_f (by decide) ?_
    refine zW_takes 36 120 (by decide) (by omega) S (by omega) (by omega) he her (fun u1 he => ?_) (fun u1 σ1 H1 η1 S1 p1 w1 he => ?_)
    · refine zW_isNmB (by omega) S (fun b2 hb2 => ?_)
      refine zW_let ?_
      refine zW_plc S ?_
      refine zW_let ?_
      refine zW_int (by omega) hlt S (fun H3 x3 S3 => ?_)
      have S5 := SS_pk 3 [2, 0, 1] rfl rfl S3
      refine zW_add (by omega) (by omega) okE S5 (fun H4 c4 S4 f4 f4' => ?_)
      refine zW_label (by omega) S4 (by omega) (by omega) he her (fun lb6 x6 σ6 H6 η6 S6 p6 w6 z6 he => ?_)
      have q6 := Qx_p p6
      have m6 := q6.2.2.1
      have d6 := dep_le q6
      have vn6 := congrArg List.length w6.2
      have vd6 := q6.1
      clear z6
      have S7 := SS_dupS S6
      refine zW_let ?_
      have S9 := SS_pk 5 [4, 1, 0, 2, 3] rfl rfl S7
      refine zW_add (by omega) (by omega) okS S9 (fun H8 c8 S8 f8 f8' => ?_)
      refine zW_takes 40 1 (by decide) (by omega) S8 (by omega) (by omega) he her (fun u10 he => ?_) (fun u10 σ10 H10 η10 S10 p10 w10 he => ?_)
      · have S11 := SS_pk 2 [1, 0] rfl rfl S8
        have he : gShort t (sP t n) b2 (pc σ).2.1 lb6 (fun p σ3 => if pIs σ3 34 then pT (pPass t σ3) fun σ4 => pB (sP t n 27 [] [] σ4) fun l σ5 => fT (gk l) (τs ++ gn 60 [[((pc σ).2.1 : Int)], lb6] [p] :: gs l) σ5 else fT (gk (gl [gn 60 [[((pc σ).2.1 : Int)], lb6] [p]])) (τs ++ [gn 60 [[((pc σ).2.1 : Int)], lb6] [p]]) σ3) σ6 = some r := by
          unfold gShort
          rcases hb2 with ⟨z1, z2⟩ | ⟨z1, z2⟩
          · rw [if_neg (fun z => z z2)]
            rw [if_neg (fun z => z z1)] at he
            exact he
          · rw [if_pos (by omega)]
            rw [if_pos z1] at he
            exact he
        refine zW_short0 (h30 n (by omega)) (h20 n (by omega)) (hb2.elim (fun z => Or.inr z.2) (fun z => Or.inl z.2)) (by omega) S11 hu (by omega) (by omega) he her (fun t12 σ12 H12 η12 ro12 S12 o12 q12 e12 he => ?_)
        have m12 := q12.2.2.1
        have d12 := dep_le q12
        have vn12 := Er_len e12
        have vd12 := q12.1
        refine yl_Parser_rowPat_p143 ?_
        unfold yb_Parser_rowPat_p143
        have S14 := SS_pk 4 [3, 0, 1, 2] rfl rfl S12
        refine zW_add (by omega) (by omega) (okP_G o12) S14 (fun H13 c13 S13 f13 f13' => ?_)
        refine zW_takesK 34 118 (by decide) (by omega) S13 (by omega) (by omega) he her (fun u15 he => ?_) (fun u15 σ15 H15 η15 S15 p15 w15 he => ?_)
        · refine zW_let ?_
          have S16 := SS_pk 3 [0, 2, 1] rfl rfl S13
          have hx : τs.map ho ++ [ho t12] = (τs ++ [gn 60 [[((pc σ).2.1 : Int)], lb6] [t12]]).map ho := by rw [List.map_append]; show _ = _ ++ [ho (gn 60 _ _)]; rw [ho_60]
          have hp : fdP τs ++ [oE ((pc σ).2.1 : Int)] = fdP (τs ++ [gn 60 [[((pc σ).2.1 : Int)], lb6] [t12]]) := by unfold fdP; rw [List.map_append]; rfl
          have hlb : fdL τs ++ [oS lb6] = fdL (τs ++ [gn 60 [[((pc σ).2.1 : Int)], lb6] [t12]]) := by unfold fdL; rw [List.map_append]; rfl
          have S90 := S16
          have S90 : SS C B X t Γ H13 σ12 η12 ((oC _ (τs.map ho ++ [ho t12]), some at') :: (oC _ (fdP τs ++ [oE ((pc σ).2.1 : Int)]), some ap) :: (oC _ (fdL τs ++ [oS lb6]), some al) :: M) _ _ := S90
          rw [hx, hp, hlb] at S90
          have hln2 : (τs ++ [gn 60 [[((pc σ).2.1 : Int)], lb6] [t12]]).length = τs.length + 1 := by rw [List.length_append]; rfl
          have e60 : Er η η12 [gn 60 [[((pc σ).2.1 : Int)], lb6] [t12]] := Er_n (by decide) (Er_o w6 e12)
          refine yl_Parser_rowPat_p53 ?_
          unfold yb_Parser_rowPat_p53
          refine zW_t rfl ?_
          have he : fT 0 (τs ++ [gn 60 [[((pc σ).2.1 : Int)], lb6] [t12]]) σ12 = some r := he
          exact hT 0 [gn 60 [[((pc σ).2.1 : Int)], lb6] [t12]] σ12 H13 η12 _ _ _ (SS_mono S90 (by show _ ≤ g + 20 - 30 * ((1 : Nat) : Int); omega) (by omega)) (Or.inl rfl) (fun x hx => by rw [List.mem_singleton.mp hx]; rfl) (Qx_to (Qx_t q6 q12) (by omega) (by omega)) e60 he
        · have q15 := Qx_p p15
          have m15 := q15.2.2.1
          have d15 := dep_le q15
          have vn15 := congrArg List.length w15.2
          have vd15 := q15.1
          refine zW_let ?_
          have S17 := SS_pk 3 [0, 2, 1] rfl rfl S15
          have hx : τs.map ho ++ [ho t12] = (τs ++ [gn 60 [[((pc σ).2.1 : Int)], lb6] [t12]]).map ho := by rw [List.map_append]; show _ = _ ++ [ho (gn 60 _ _)]; rw [ho_60]
          have hp : fdP τs ++ [oE ((pc σ).2.1 : Int)] = fdP (τs ++ [gn 60 [[((pc σ).2.1 : Int)], lb6] [t12]]) := by unfold fdP; rw [List.map_append]; rfl
          have hlb : fdL τs ++ [oS lb6] = fdL (τs ++ [gn 60 [[((pc σ).2.1 : Int)], lb6] [t12]]) := by unfold fdL; rw [List.map_append]; rfl
          have S90 := S17
          have S90 : SS C B X t Γ H15 σ15 η15 ((oC _ (τs.map ho ++ [ho t12]), some at') :: (oC _ (fdP τs ++ [oE ((pc σ).2.1 : Int)]), some ap) :: (oC _ (fdL τs ++ [oS lb6]), some al) :: M) _ _ := S90
          rw [hx, hp, hlb] at S90
          have hln2 : (τs ++ [gn 60 [[((pc σ).2.1 : Int)], lb6] [t12]]).length = τs.length + 1 := by rw [List.length_append]; rfl
          have e60 : Er η η15 [gn 60 [[((pc σ).2.1 : Int)], lb6] [t12]] := Er_n (by decide) (Er_e (Er_o w6 e12) w15)
          refine ih (fun n' hn' => h30 n' (by omega)) (fun n' hn' => h20 n' (by omega)) Γ H15 σ15 η15 M _ _ d Q r _ _ _ al ap at' (τs ++ [gn 60 [[((pc σ).2.1 : Int)], lb6] [t12]]) fT S90 hu (by omega) (by rw [hln2]; omega) ⟨by rw [hln2]; omega, by rw [hln2]; omega, by rw [hln2]; omega⟩ (by rw [hln2]; omega) (by omega) (by simp only [List.append_assoc]; exact he) her (fun o l σ95 H95 η95 cl3 cp3 ct3 S95 ho' hP q95 e95 he95 => ?_)
          have hcons : (τs ++ [gn 60 [[((pc σ).2.1 : Int)], lb6] [t12]]) ++ l = τs ++ gn 60 [[((pc σ).2.1 : Int)], lb6] [t12] :: l := by rw [List.append_assoc]; rfl
          rw [hcons, hln2] at S95
          rw [hcons] at he95
          refine hT o (gn 60 [[((pc σ).2.1 : Int)], lb6] [t12] :: l) σ95 H95 η95 cl3 cp3 ct3 (SS_mono S95 (by rw [List.length_cons]; omega) (by omega)) ho' (fun x hx => ?_) (Qx_to (Qx_t (Qx_t q6 (Qx_t q12 q15)) q95) (by omega) (by omega)) (Er_t e60 e95) he95
          rcases List.mem_cons.mp hx with rfl | hx
          · rfl
          · exact hP x hx
      · have q10 := Qx_p p10
        have m10 := q10.2.2.1
        have d10 := dep_le q10
        have vn10 := congrArg List.length w10.2
        have vd10 := q10.1
        refine zW_sub (h20 n (by omega)) (by omega) S10 hu (by omega) (by omega) he her (fun t18 σ18 H18 η18 ro18 S18 o18 q18 e18 he => ?_)
        have m18 := q18.2.2.1
        have d18 := dep_le q18
        have vn18 := Er_len e18
        have vd18 := q18.1
        refine yl_Parser_rowPat_p143 ?_
        unfold yb_Parser_rowPat_p143
        have S20 := SS_pk 5 [4, 0, 1, 2, 3] rfl rfl S18
        refine zW_add (by omega) (by omega) (okP_G o18.1) S20 (fun H19 c19 S19 f19 f19' => ?_)
        refine zW_takesK 34 118 (by decide) (by omega) S19 (by omega) (by omega) he her (fun u21 he => ?_) (fun u21 σ21 H21 η21 S21 p21 w21 he => ?_)
        · refine zW_let ?_
          have S22 := SS_pk 4 [2, 0, 3, 1] rfl rfl S19
          have S23 := SS_drop S22
          have hx : τs.map ho ++ [ho t18] = (τs ++ [gn 60 [[((pc σ).2.1 : Int)], lb6] [t18]]).map ho := by rw [List.map_append]; show _ = _ ++ [ho (gn 60 _ _)]; rw [ho_60]
          have hp : fdP τs ++ [oE ((pc σ).2.1 : Int)] = fdP (τs ++ [gn 60 [[((pc σ).2.1 : Int)], lb6] [t18]]) := by unfold fdP; rw [List.map_append]; rfl
          have hlb : fdL τs ++ [oS lb6] = fdL (τs ++ [gn 60 [[((pc σ).2.1 : Int)], lb6] [t18]]) := by unfold fdL; rw [List.map_append]; rfl
          have S90 := S23
          have S90 : SS C B X t Γ H19 σ18 η18 ((oC _ (τs.map ho ++ [ho t18]), some at') :: (oC _ (fdP τs ++ [oE ((pc σ).2.1 : Int)]), some ap) :: (oC _ (fdL τs ++ [oS lb6]), some al) :: M) _ _ := S90
          rw [hx, hp, hlb] at S90
          have hln2 : (τs ++ [gn 60 [[((pc σ).2.1 : Int)], lb6] [t18]]).length = τs.length + 1 := by rw [List.length_append]; rfl
          have e60 : Er η η18 [gn 60 [[((pc σ).2.1 : Int)], lb6] [t18]] := Er_n (by decide) (Er_o ⟨w10.1.trans w6.1, w10.2.trans w6.2⟩ e18)
          refine yl_Parser_rowPat_p53 ?_
          unfold yb_Parser_rowPat_p53
          refine zW_t rfl ?_
          have he : fT 0 (τs ++ [gn 60 [[((pc σ).2.1 : Int)], lb6] [t18]]) σ18 = some r := he
          exact hT 0 [gn 60 [[((pc σ).2.1 : Int)], lb6] [t18]] σ18 H19 η18 _ _ _ (SS_mono S90 (by show _ ≤ g + 20 - 30 * ((1 : Nat) : Int); omega) (by omega)) (Or.inl rfl) (fun x hx => by rw [List.mem_singleton.mp hx]; rfl) (Qx_to (Qx_t q6 (Qx_t q10 q18)) (by omega) (by omega)) e60 he
        · have q21 := Qx_p p21
          have m21 := q21.2.2.1
          have d21 := dep_le q21
          have vn21 := congrArg List.length w21.2
          have vd21 := q21.1
          refine zW_let ?_
          have S24 := SS_pk 4 [2, 0, 3, 1] rfl rfl S21
          have S25 := SS_drop S24
          have hx : τs.map ho ++ [ho t18] = (τs ++ [gn 60 [[((pc σ).2.1 : Int)], lb6] [t18]]).map ho := by rw [List.map_append]; show _ = _ ++ [ho (gn 60 _ _)]; rw [ho_60]
          have hp : fdP τs ++ [oE ((pc σ).2.1 : Int)] = fdP (τs ++ [gn 60 [[((pc σ).2.1 : Int)], lb6] [t18]]) := by unfold fdP; rw [List.map_append]; rfl
          have hlb : fdL τs ++ [oS lb6] = fdL (τs ++ [gn 60 [[((pc σ).2.1 : Int)], lb6] [t18]]) := by unfold fdL; rw [List.map_append]; rfl
          have S90 := S25
          have S90 : SS C B X t Γ H21 σ21 η21 ((oC _ (τs.map ho ++ [ho t18]), some at') :: (oC _ (fdP τs ++ [oE ((pc σ).2.1 : Int)]), some ap) :: (oC _ (fdL τs ++ [oS lb6]), some al) :: M) _ _ := S90
          rw [hx, hp, hlb] at S90
          have hln2 : (τs ++ [gn 60 [[((pc σ).2.1 : Int)], lb6] [t18]]).length = τs.length + 1 := by rw [List.length_append]; rfl
          have e60 : Er η η21 [gn 60 [[((pc σ).2.1 : Int)], lb6] [t18]] := Er_n (by decide) (Er_e (Er_o ⟨w10.1.trans w6.1, w10.2.trans w6.2⟩ e18) w21)
          refine ih (fun n' hn' => h30 n' (by omega)) (fun n' hn' => h20 n' (by omega)) Γ H21 σ21 η21 M _ _ d Q r _ _ _ al ap at' (τs ++ [gn 60 [[((pc σ).2.1 : Int)], lb6] [t18]]) fT S90 hu (by omega) (by rw [hln2]; omega) ⟨by rw [hln2]; omega, by rw [hln2]; omega, by rw [hln2]; omega⟩ (by rw [hln2]; omega) (by omega) (by simp only [List.append_assoc]; exact he) her (fun o l σ95 H95 η95 cl3 cp3 ct3 S95 ho' hP q95 e95 he95 => ?_)
          have hcons : (τs ++ [gn 60 [[((pc σ).2.1 : Int)], lb6] [t18]]) ++ l = τs ++ gn 60 [[((pc σ).2.1 : Int)], lb6] [t18] :: l := by rw [List.append_assoc]; rfl
          rw [hcons, hln2] at S95
          rw [hcons] at he95
          refine hT o (gn 60 [[((pc σ).2.1 : Int)], lb6] [t18] :: l) σ95 H95 η95 cl3 cp3 ct3 (SS_mono S95 (by rw [List.length_cons]; omega) (by omega)) ho' (fun x hx => ?_) (Qx_to (Qx_t (Qx_t q6 (Qx_t q10 (Qx_t q18 q21))) q95) (by omega) (by omega)) (Er_t e60 e95) he95
          rcases List.mem_cons.mp hx with rfl | hx
          · rfl
          · exact hP x hx
    · have q1 := Qx_p p1
      have m1 := q1.2.2.1
      have d1 := dep_le q1
      have vn1 := congrArg List.length w1.2
      have vd1 := q1.1
      refine zW_let ?_
      have he : fT 1 (τs ++ []) σ1 = some r := he
      exact hT 1 [] σ1 H1 η1 _ _ _ (by rw [List.append_nil]; exact SS_mono S1 (by show _ ≤ g + 20 - 30 * ((0 : Nat) : Int); omega) (by omega)) (Or.inr rfl) (fun x q => by cases q) (Qx_to q1 (by omega) (by omega)) (Er_1 w1) he
theorem y_rowPat {n : Nat} (h30 : ∀ n', n' ≤ n → YCf C B X t (sP t n' 30 [] []) 126 4 ho okTy) (h20 : ∀ n', n' ≤ n → YCf C B X t (sP t n' 20 [] []) 109 10 ho okPa) (hlen : t.length ≤ 900) : YCf C B X t (nE 32 (gRoP t (sP t n))) 122 5 ho okPa := by
  intro Γ H σ η M g h d Q r S hu hg hh hd he her hk
  have d40 := dep_40 S
  have vl := SS_vl S
  obtain ⟨w, he⟩ := nE_is he
  unfold gRoP at he
  try simp only [pB_pT, pB_ite, pB_pR, pB_pWr, pB_in, pB_ass, pB_pNeed, pB_pOpens, pB_pCloses, pB_pName, pB_pAny, pB_pOpn, pB_pLab, gs_gl, cons1] at he
  refine yl_Parser_rowPat ?_
  unfold yb_Parser_rowPat
  have hmu := pmu_le (t := t) (σ := σ)
  refine zW_opens (by omega) S (by have := w.1; omega) (by omega) (by omega) he her (fun lt σ1 H1 η1 S1 p1 w1 he => ?_)
  have q1 : Qx t 1 1 σ σ1 := Qx_to (Qx_o p1) (by omega) (by omega)
  have m1 := q1.2.2.1
  have d1 := dep_op q1 lt
  have v1 := p1.2.1
  have vn1 := congrArg List.length w1.2
  have vd1 := q1.1
  refine zW_let ?_
  refine zW_alnew (by omega) S1 (fun H2 l2 S2 => ?_)
  refine zW_let ?_
  refine zW_alnew (by omega) S2 (fun H3 l3 S3 => ?_)
  refine zW_let ?_
  refine zW_alnew (by omega) S3 (fun H4 l4 S4 => ?_)
  refine zW_let ?_
  refine zW_let ?_
  refine zW_tis 33 119 (by decide) (by omega) S4 (fun u5 => ?_) (fun u5 => ?_)
  · rw [if_pos u5] at he
    refine zW_let ?_
    refine yl_Parser_rowPat_p53 ?_
    unfold yb_Parser_rowPat_p53
    refine zW_t rfl ?_
    refine yl_Parser_rowPat_p159 ?_
    unfold yb_Parser_rowPat_p159
    refine zW_closes 33 119 (by decide) (by omega) (by omega) (by omega) S4 (by omega) (by omega) he her (fun _ σ6 H6 η6 S6 p6 w6 he => ?_)
    have q6 : Qx t (-1) 1 σ1 σ6 := Qx_to (Qx_o p6) (by omega) (by omega)
    have m6 := q6.2.2.1
    have v6 := p6.2.1
    have vn6 := congrArg List.length w6.2
    have vd6 := q6.1
    have S7 := SS_new (kd := 25) (n := 7) (p := []) S6 (by decide) trivial
    refine zW_new ?_
    rw [if_neg (show ¬ (25 : Nat) = 3 by decide)]
    have S8 := SS_pk 4 [3, 0, 1, 2] rfl rfl S7
    have S9 := SS_oL S8
    have S10 := SS_pk 4 [3, 0, 1, 2] rfl rfl S9
    have S11 := SS_oL S10
    have S12 := SS_pk 4 [3, 0, 1, 2] rfl rfl S11
    have S13 := SS_oL S12
    have S14 := SS_pk 4 [3, 2, 1, 0] rfl rfl S13
    refine m_RowPat (by omega) (by omega) S14 (fun H15 S15 => ?_)
    refine zW_rQ (hk (gn 35 [[((pc σ).2.1 : Int), 0, ((pc σ).2.1 : Int)]] []) _ _ _ _ (Option.some.inj he).symm ?_ ?_ (Qx_to (Qx_t q1 q6) (by omega) (by omega)) (Er_n (by decide) (Er_1 ⟨w6.1.trans w1.1, w6.2.trans w1.2⟩)))
    · rw [ho_35]; exact SS_mono S15 (by omega) (by omega)
    · exact ⟨⟨(by decide : 30 ≤ 35), (by decide : 35 ≤ 41)⟩, fun q => by cases q⟩
  · rw [if_neg u5] at he
    refine zW_let ?_
    refine y_rowPs ((pc σ).2.1 : Int) n h30 h20 Γ H4 σ1 η1 M _ _ d Q r 0 0 0 _ _ _ [] (fun o l σ2 => pCloses t 33 σ2 fun σ3 => pR (gn 35 [[((pc σ).2.1 : Int), (o : Int), ((pc σ).2.1 : Int)]] l) σ3) S4 hu (by omega) (by show _ + 24 * 0 ≤ _; omega) ⟨by omega, by omega, by omega⟩ (by show 0 + _ ≤ _; omega) (by omega) he her (fun oi l16 σ16 H16 η16 cl cp ct S16 oo P16 q16 e16 he => ?_)
    simp only [List.length_nil, List.nil_append] at S16
    try simp only [List.nil_append] at he
    have m16 := q16.2.2.1
    have vn16 := Er_len e16
    have vd16 := q16.1
    refine yl_Parser_rowPat_p159 ?_
    unfold yb_Parser_rowPat_p159
    refine zW_closes 33 119 (by decide) (by omega) (by omega) (by omega) S16 (by omega) (by omega) he her (fun _ σ17 H17 η17 S17 p17 w17 he => ?_)
    have q17 : Qx t (-1) 1 σ16 σ17 := Qx_to (Qx_o p17) (by omega) (by omega)
    have m17 := q17.2.2.1
    have v17 := p17.2.1
    have vn17 := congrArg List.length w17.2
    have vd17 := q17.1
    have S18 := SS_new (kd := 25) (n := 7) (p := []) S17 (by decide) trivial
    refine zW_new ?_
    rw [if_neg (show ¬ (25 : Nat) = 3 by decide)]
    have S19 := SS_pk 4 [3, 0, 1, 2] rfl rfl S18
    have S20 := SS_oL S19
    have S21 := SS_pk 4 [3, 0, 1, 2] rfl rfl S20
    have S22 := SS_oL S21
    have S23 := SS_pk 4 [3, 0, 1, 2] rfl rfl S22
    have S24 := SS_oL S23
    have S25 := SS_pk 4 [3, 2, 1, 0] rfl rfl S24
    refine m_RowPat (by omega) (by omega) S25 (fun H26 S26 => ?_)
    refine zW_rQ (hk (gn 35 [[((pc σ).2.1 : Int), (oi : Int), ((pc σ).2.1 : Int)]] l16) _ _ _ _ (Option.some.inj he).symm ?_ ?_ (Qx_to (Qx_t q1 (Qx_t q16 q17)) (by omega) (by omega)) (Er_n (by decide) (Er_e (Er_o w1 e16) w17)))
    · rw [ho_35]; exact SS_mono S26 (by omega) (by omega)
    · exact ⟨⟨(by decide : 30 ≤ 35), (by decide : 35 ≤ 41)⟩, fun q => by cases q⟩
end YPat4
