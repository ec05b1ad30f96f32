set_option maxRecDepth 100000
/-! THE HOUSE'S PARSER: fun as a whole (printed by gen/dsl/p74xo.py) -/
noncomputable abbrev kFun (C : YC) (X : Nat → Nat) (d a f : Nat) (H : YS) : ZR YS := ygR 17404 (some a) H fun v8 =>
    zI (ycv (YL C) d [(5, 505)] v8 [.inr (.inr (some f))] H) fun v10 h9 =>
    zI (ycv (YL C) d [(6, 108)] (some (X 8)) [.inr (.inr (some (C.1 146)))] h9) fun v12 h11 =>
    if v12 = 0 then
      zV (ycv (YL C) d [(6, 157)] (some (X 8)) [] h11) fun h13 =>
      zrQ (some a) h13
    else
    YL C d 609 [zr (X 8), zr a] h11
def gFun (t : List Int) (R : PX) (σ : Ps) : PR := pT (pPass t σ) fun σ1 => pB (R 43 [] [] σ1) fun l σ2 => pR (gn 72 [] (gs l)) σ2
section YFun
variable {C : YC} {B P O : Nat → Prop} {X : Nat → Nat} {t : List Int} {Γ : Gm} {H H' : YS} {σ σ1 : Ps} {η η1 : Et} {M : List (Gt × Option Nat)} {g h g' h' : Int} {a e c s d dp cap : Nat} {F : List (List Int × Int × Int)} {Q : Option (Option ZV) → YS → Prop} {r : (Int × Nat) ⊕ (Gt × Ps)} {f : Ps → PR} {θ τ : Gt} {w : Option Nat} {l : List Gt} {tk : Tok} {R : PX}
variable {v : Ve} {V : List Ve}
theorem zW_funEnd {c3 l3 : Nat} (hd : 24 ≤ d) (S : SS C B X t Γ H σ η ((oC c3 (l.map ho), some l3) :: M) g h) (hV : eV η = v :: V) (h1 : v.2.1 = (58, [], [oF 17404 (oA l3)])) (h3 : v.2.2.1.1 = gms false l) (h4 : v.2.2.1.2 = gms true l) (hn : v.2.2.2.2.2 = ynx Γ.1) (hk : ∀ H1 η1, SS C B X t Γ H1 σ η1 ((ho (gn 72 [] l), some v.1) :: M) g h → et η1 = et η → VR [] (gms true l) V (eV η1) → Q (some (some (.inr (.inr (some v.1))))) H1) : zW (zV (ycv (YL C) d [(6, 157)] (some (X 8)) [] H) fun h14 => zrQ (some v.1) h14) Q := by
  refine zW_close hd hV hn (by rw [h4]; exact gms_oM) (SS_pq S) S (fun H1 η1 S1 t1 c1 => zW_rQ (hk H1 η1 ?_ t1 (by rw [← h4]; exact c1)))
  rw [h1, h3, h4] at S1
  have S2 := SS_oL (SS_pk 2 [1, 0] rfl rfl S1)
  have S3 := SS_pk 2 [1, 0] rfl rfl S2
  have S5 := SS_nest [oF 7200 (oL (gms false l)), oF 7201 (oL (gms true l))] (show (58 : Nat) < 100 by decide) S3
  rw [ho_72]
  exact S5
theorem y_clsLoop : ∀ (n : Nat), (∀ n', n' < n → YCe C B X t (sP t n' 45 [] []) 159 13 ho (fun _ τ => okG (ho τ))) → ∀ (Γ : Gm) (H : YS) (σ : Ps) (η : Et) (M : List (Gt × Option Nat)) (g h : Int) (d : Nat) (Q : Option (Option ZV) → YS → Prop) (r : (Int × Nat) ⊕ (Gt × Ps)) (cap l3 f a : Nat) (x : Int) (τs : List Gt) (fT : List Gt → Ps → PR), SS C B X t Γ H σ η ((oO 59 [17700, x] [oF 17701 (oA l3)], some f) :: (oC cap (τs.map ho), some l3) :: M) g h → Γ.2.2.2.2 = 0 → g ≤ 2980 → h + 8 * τs.length ≤ 2860 + 4 * cap → cap ≤ 10 + 2 * τs.length → τs.length + pmu t σ ≤ 999 → dep t σ + 14 ≤ d → pB (sP t n 44 [] [] σ) (fun l σ2 => fT (τs ++ gs l) σ2) = some r →
      (∀ e p H', r = .inl (e, p) → Th C B X t Γ H' e p → Q none H') →
      (∀ l σ2 H2 η2 cap2, SS C B X t Γ H2 σ2 η2 ((oO 59 [17700, x] [oF 17701 (oA l3)], some f) :: (oC cap2 ((τs ++ l).map ho), some l3) :: M) (g - 29 * l.length) (h + 40 + 8 * τs.length - 4 * cap - 192 * l.length) → l ≠ [] → Qx t 0 1 σ σ2 → Er η η2 l → (τs ++ l).length + pmu t σ2 ≤ 999 → fT (τs ++ l) σ2 = some r → zW (kFun C X d a f H2) Q) → zW (YL C d 805 [zr (X 8), zr a, zr f] H) Q := by
  intro n
  induction n with
  | zero =>
    intro _ Γ H σ η M g h d Q r cap l3 f a x τs fT S hu hg hh hc hl hd he
    cases he
  | succ n ih =>
    intro h45 Γ H σ η M g h d Q r cap l3 f a x τs fT S hu hg hh hc hl hd he her hT
    have d40 := dep_40 S
    have vl := SS_vl S
    have hmp : (τs.map ho).length = τs.length := List.length_map _
    have he : pB (gClauses t (sP t n) σ) (fun l σ2 => fT (τs ++ gs l) σ2) = some r := he
    unfold gClauses at he
    simp only [pB_pT, pB_ite, pB_pR, pB_pWr, pB_in, pB_ass, pB_pNeed, pB_pOpens, pB_pCloses, pB_pName, pB_pAny, pB_pOpn, pB_pLab, gs_gl, cons1] at he
    refine yl_Parser_functions_p32 ?_
    unfold yb_Parser_functions_p32
    refine zW_gA [] (by decide) (by decide) S ?_
    refine zW_sube (h45 n (by omega)) (by omega) S hu (by omega) (by omega) he her (fun t1 σ1 H1 η1 ro1 S1 o1 q1 e1 he => ?_)
    have m1 := q1.2.2.1
    have d1 := dep_le q1
    have vn1 := Er_len e1
    have vd1 := q1.1
    have S3 := SS_pk 3 [2, 0, 1] rfl rfl S1
    refine zW_add (by omega) (by omega) o1 S3 (fun H2 c2 S2 f2 f2' => ?_)
    refine zW_takes 39 137 (by decide) (by omega) S2 (by omega) (by omega) he her (fun u4 he => ?_) (fun u4 σ4 H4 η4 S4 p4 w4 he => ?_)
    · have S5 := SS_pk 2 [1, 0] rfl rfl S2
      rw [show τs.map ho ++ [ho t1] = (τs ++ [t1]).map ho by rw [List.map_append]; rfl] at S5
      exact hT [t1] σ1 H2 η1 _ (SS_mono S5 (by show _ ≤ g - 29 * ((1 : Nat) : Int); omega) (by show _ ≤ h + 40 + 8 * (τs.length : Int) - 4 * cap - 192 * ((1 : Nat) : Int); omega)) (fun q => by cases q) (Qx_to q1 (by omega) (by omega)) e1 (by rw [List.length_append]; show _ + 1 + _ ≤ _; omega) he
    · have q4 := Qx_p p4
      have m4 := q4.2.2.1
      have d4 := dep_le q4
      have vn4 := congrArg List.length w4.2
      have vd4 := q4.1
      have S6 := SS_pk 2 [1, 0] rfl rfl S4
      rw [show τs.map ho ++ [ho t1] = (τs ++ [t1]).map ho by rw [List.map_append]; rfl] at S6
      have hln2 : (τs ++ [t1]).length = τs.length + 1 := by rw [List.length_append]; rfl
      refine ih (fun n' hn' => h45 n' (by omega)) Γ H4 σ4 η4 M _ _ d Q r _ l3 f a x (τs ++ [t1]) fT S6 hu (by omega) (by rw [hln2]; omega) (by rw [hln2]; omega) (by rw [hln2]; omega) (by omega) (by simp only [List.append_assoc]; exact he) her (fun l σ95 H95 η95 cap95 S95 _ q95 e95 z95 he95 => ?_)
      have hcons : (τs ++ [t1]) ++ l = τs ++ t1 :: l := by rw [List.append_assoc]; rfl
      rw [hcons, hln2] at S95
      rw [hcons] at he95 z95
      exact hT (t1 :: l) σ95 H95 η95 cap95 (SS_mono S95 (by rw [List.length_cons]; omega) (by rw [List.length_cons]; omega)) (fun q => by cases q) (Qx_to (Qx_t (Qx_t q1 q4) q95) (by omega) (by omega)) (Er_t (Er_e e1 w4) e95) z95 he95
theorem y_funLoop : ∀ (n : Nat), (∀ n', n' < n → YCe C B X t (sP t n' 45 [] []) 159 13 ho (fun _ τ => okG (ho τ))) → ∀ (Γ : Gm) (H : YS) (σ : Ps) (η : Et) (M : List (Gt × Option Nat)) (g h : Int) (d : Nat) (Q : Option (Option ZV) → YS → Prop) (r : (Int × Nat) ⊕ (Gt × Ps)) (c4 l4 : Nat) (v : Ve) (V : List Ve) (τs : List Gt) (fT : List Gt → Ps → PR), SS C B X t Γ H σ η ((oC c4 (τs.map ho), some l4) :: M) g h → Γ.2.2.2.2 = 0 → eV η = v :: V → v.2.1 = (58, [], [oF 17404 (oA l4)]) → g ≤ 2970 → h + 8 * τs.length ≤ 2810 + 4 * c4 → c4 ≤ 10 + 2 * τs.length → τs.length + pmu t σ ≤ 999 → dep t σ + 15 ≤ d → pB (sP t n 43 [] [] σ) (fun l σ2 => fT (τs ++ gs l) σ2) = some r →
      (∀ e p H', r = .inl (e, p) → Th C B X t Γ H' e p → Q none H') →
      (∀ l σ2 H2 η2 c5, SS C B X t Γ H2 σ2 η2 ((oC c5 ((τs ++ l).map ho), some l4) :: M) (g - 20 * l.length) (h + 40 + 8 * τs.length - 4 * c4 - 130 * l.length) → l ≠ [] → Qx t 0 1 σ σ2 → Er η η2 l → fT (τs ++ l) σ2 = some r → zW (zV (ycv (YL C) d [(6, 157)] (some (X 8)) [] H2) fun h14 => zrQ (some v.1) h14) Q) → zW (YL C d 609 [zr (X 8), zr v.1] H) Q := by
  intro n
  induction n with
  | zero =>
    intro _ Γ H σ η M g h d Q r c4 l4 v V τs fT S hu hV hv1 hg hh hc hl hd he
    cases he
  | succ n ih =>
    intro h45 Γ H σ η M g h d Q r c4 l4 v V τs fT S hu hV hv1 hg hh hc hl hd he her hT
    have d40 := dep_40 S
    have vl := SS_vl S
    have hmp : (τs.map ho).length = τs.length := List.length_map _
    have he : pB (gFuns t (sP t n) σ) (fun l σ2 => fT (τs ++ gs l) σ2) = some r := he
    unfold gFuns at he
    simp only [pB_pT, pB_ite, pB_pR, pB_pWr, pB_in, pB_ass, pB_pNeed, pB_pOpens, pB_pCloses, pB_pName, pB_pAny, pB_pOpn, pB_pLab, gs_gl, cons1] at he
    refine yl_Parser_functions_p17 ?_
    unfold yb_Parser_functions_p17
    have S101 := SS_new (kd := 59) (n := 3) (p := []) S (by decide) trivial
    refine zW_new ?_
    rw [if_neg (show ¬ (59 : Nat) = 3 by decide)]
    refine zW_plc S101 ?_
    refine m_Fun (by omega) S101 (fun H102 l3 S102 => ?_)
    refine zW_let ?_
    have lz : ([] : List Gt).length = 0 := rfl
    refine y_clsLoop n (fun n' q => h45 n' (by omega)) Γ H102 σ η _ _ _ d Q r 0 l3 _ v.1 _ [] (fun l σ2 => if pIs σ2 0 then pT (pPass t σ2) fun σ3 => pB (sP t n 43 [] [] σ3) fun l' σ4 => fT (τs ++ gn 79 [[((pc σ).2.1 : Int)]] l :: gs l') σ4 else fT (τs ++ [gn 79 [[((pc σ).2.1 : Int)]] l]) σ2) S102 hu (by omega) (by omega) (by omega) (by rw [lz]; omega) (by omega) he her (fun l1 σ95 H95 η95 cap95 S95 n95 q95 e95 z95 he => ?_)
    simp only [List.length_nil, List.nil_append] at S95 he
    have m95 := q95.2.2.1
    have d95 := dep_le q95
    have vd95 := q95.1
    have hl1 : 1 ≤ l1.length := List.length_pos_iff.mpr n95
    have S96 := SS_oL (SS_pk 2 [1, 0] rfl rfl S95)
    have S97 := SS_nest [] (by decide) (SS_pk 2 [1, 0] rfl rfl S96)
    simp only [List.nil_append] at S97
    rw [show gn 59 [[17700, ((pc σ).2.1 : Int)]] [oF 17701 (oL (l1.map ho))] = ho (gn 79 [[((pc σ).2.1 : Int)]] l1) by rw [ho_79]; rfl] at S97
    have e96 : Er η η95 [gn 79 [[((pc σ).2.1 : Int)]] l1] := Er_n (by decide) e95
    obtain ⟨v2, hV2, y1, y2, -⟩ := Er_top e96 hV
    rw [← y1]
    refine zW_gV (s1 := []) hV2 (by rw [y2, hv1]; exact (show yokF 17404 58 = true by decide)) (by rw [y2, hv1]; rfl) S97 ?_
    have S104 := SS_pk 2 [1, 0] rfl rfl S97
    refine zW_add (by omega) (by omega) (by rw [ho_79]; exact okO (by decide)) S104 (fun H103 c103 S103 f103 f103' => ?_)
    refine zW_takes 0 146 (by decide) (by omega) S103 (by omega) (by omega) he her (fun u105 he => ?_) (fun u105 σ105 H105 η105 S105 p105 w105 he => ?_)
    · rw [show τs.map ho ++ [ho (gn 79 [[((pc σ).2.1 : Int)]] l1)] = (τs ++ [gn 79 [[((pc σ).2.1 : Int)]] l1]).map ho by rw [List.map_append]; rfl] at S103
      rw [y1]
      exact hT [gn 79 [[((pc σ).2.1 : Int)]] l1] σ95 H103 η95 _ (SS_mono S103 (by show _ ≤ g - 20 * ((1 : Nat) : Int); omega) (by show _ ≤ h + 40 + 8 * (τs.length : Int) - 4 * c4 - 130 * ((1 : Nat) : Int); omega)) (fun q => by cases q) (Qx_to q95 (by omega) (by omega)) e96 he
    · have q105 := Qx_p p105
      have m105 := q105.2.2.1
      have d105 := dep_le q105
      have vn105 := congrArg List.length w105.2
      have vd105 := q105.1
      rw [show τs.map ho ++ [ho (gn 79 [[((pc σ).2.1 : Int)]] l1)] = (τs ++ [gn 79 [[((pc σ).2.1 : Int)]] l1]).map ho by rw [List.map_append]; rfl] at S105
      have hln2 : (τs ++ [gn 79 [[((pc σ).2.1 : Int)]] l1]).length = τs.length + 1 := by rw [List.length_append]; rfl
      obtain ⟨v3, hV3, x1, x2, -⟩ := Er_top (Er_e e96 w105) hV
      rw [y1, ← x1]
      refine ih (fun n' hn' => h45 n' (by omega)) Γ H105 σ105 η105 M _ _ d Q r _ l4 v3 V (τs ++ [gn 79 [[((pc σ).2.1 : Int)]] l1]) fT S105 hu hV3 (by rw [x2]; exact hv1) (by omega) (by rw [hln2]; omega) (by rw [hln2]; omega) (by rw [hln2]; omega) (by omega) (by simp only [List.append_assoc]; exact he) her (fun l σ98 H98 η98 cap98 S98 _ q98 e98 he98 => ?_)
      have hcons : (τs ++ [gn 79 [[((pc σ).2.1 : Int)]] l1]) ++ l = τs ++ gn 79 [[((pc σ).2.1 : Int)]] l1 :: l := by rw [List.append_assoc]; rfl
      rw [hcons, hln2] at S98
      rw [hcons] at he98
      rw [x1]
      exact hT (gn 79 [[((pc σ).2.1 : Int)]] l1 :: l) σ98 H98 η98 cap98 (SS_mono S98 (by rw [List.length_cons]; omega) (by rw [List.length_cons]; omega)) (fun q => by cases q) (Qx_to (Qx_t (Qx_t q95 q105) q98) (by omega) (by omega)) (Er_t (Er_e e96 w105) e98) he98
theorem y_functions {n : Nat} (h45 : ∀ n', n' < n → YCe C B X t (sP t n' 45 [] []) 159 13 ho (fun _ τ => okG (ho τ))) (hlen : t.length ≤ 900) : YDf C B X t (nE 10 (gFun t (sP t n))) 158 16 ho okDc := by
  intro Γ H σ η M g h d Q r S hu hvl hg hh hd he her hk
  have d40 := dep_40 S
  have vl := SS_vl S
  have e0 := SS_et0 S hu
  have hmu := pmu_le (t := t) (σ := σ)
  obtain ⟨w, he⟩ := nE_is he
  unfold gFun at he
  try simp only [pB_pT, pB_ite, pB_pR, pB_pWr, pB_in, pB_ass, pB_pNeed, pB_pOpens, pB_pCloses, pB_pName, pB_pAny, pB_pOpn, pB_pLab, gs_gl, cons1] at he
  refine yl_Parser_functions ?_
  unfold yb_Parser_functions
  refine zW_pass (by omega) S (by have := w.1; omega) (by omega) (by omega) he her (fun σ1 H1 η1 S1 p1 w1 he => ?_)
  have q1 := Qx_p p1
  have m1 := q1.2.2.1
  have d1 := dep_le q1
  have vn1 := congrArg List.length w1.2
  have vd1 := q1.1
  have S2 := SS_new (kd := 58) (n := 5) (p := []) S1 (by decide) trivial
  refine zW_new ?_
  rw [if_neg (show ¬ (58 : Nat) = 3 by decide)]
  refine m_FunDec (by omega) S2 (fun H3 l1 l2 l3 S3 => ?_)
  refine zW_let ?_
  refine zW_open (fs := [oF 17404 (oA l3)]) (by omega) (Or.inr rfl) (by omega) S3 (fun H4 O4 cap4 S4 => ?_)
  have tt : et η1 = false := w1.1.trans e0
  have lz : ([] : List Gt).length = 0 := rfl
  refine y_funLoop n (fun n' q => h45 n' q) Γ H4 σ1 _ M _ _ d Q r 0 l3 ((ynx H1), (58, [], [oF 17404 (oA l3)]), ([], []), (0, 0), (l1, l2), ynx Γ.1) (eV η1) [] (fun l σ2 => pR (gn 72 [] l) σ2) S4 hu rfl rfl (by omega) (by omega) (by omega) (by rw [lz]; omega) (by omega) he her (fun l σ95 H95 η95 c5 S95 n95 q95 e95 he95 => ?_)
  simp only [List.length_nil, List.nil_append] at S95 he95
  have hl1 : 1 ≤ l.length := List.length_pos_iff.mpr n95
  obtain ⟨v1, hV1, z1, z2, z3, z4, z5⟩ := Er_top e95 rfl
  have tt9 : et η95 = false := e95.1.trans (tt)
  have z3 : v1.2.2.1.1 = gms false l := by rw [z3]; show [] ++ mt (et _) _ = _; rw [show et _ = false from tt]; rfl
  have z4 : v1.2.2.1.2 = gms true l := by rw [z4]; show [] ++ mt (et _) _ = _; rw [show et _ = false from tt]; rfl
  rw [← z1]
  refine zW_funEnd (by omega) S95 hV1 z2 z3 z4 (by rw [z5]) (fun H96 η96 S96 t96 c96 => ?_)
  refine hk (gn 72 [] l) σ95 H96 η96 _ (Option.some.inj he95).symm (SS_mono S96 (by omega) (by omega)) ⟨(by decide : 70 ≤ 72), (by decide : 72 ≤ 77)⟩ (Qx_to (Qx_t q1 q95) (by omega) (by omega)) (Er_close (by decide) ((t96.trans tt9).trans e0.symm) e0 ?_)
  rw [← w1.2]
  exact c96
end YFun
