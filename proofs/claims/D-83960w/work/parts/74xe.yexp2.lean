set_option maxRecDepth 100000
/-! THE HOUSE'S PARSER: rules, applications, brackets of expressions (printed by gen/dsl/p74xe.py) -/
theorem gRules_gl {t : List Int} {R : PX} {σ : Ps} : pB (gRules t R σ) (fun l σ2 => pR (gl (gs l)) σ2) = gRules t R σ := by
  unfold gRules
  simp only [pB_pT, pB_ite, pB_pR, pB_pWr, pB_in, pB_ass, pB_pNeed, pB_pOpens, pB_pCloses, pB_pName, pB_pAny, pB_pOpn, pB_pLab, gs_gl, cons1]
def gBrX (x3 : Int) (pl : Int) (l : List Gt) : Gt := match l with
  | [e] => gsb pl e
  | l => if x3 = 1 ∨ l = [] then gn 20 [[pl]] l else gn 17 [[pl]] l
theorem gBrX_1 {pl : Int} {e : Gt} {s : List Gt} {i : Decidable (s = [])} : @ite Gt (s = []) i (gsb pl e) (gn 20 [[pl]] (e :: s)) = gBrX 1 pl (e :: s) := by
  cases s with
  | nil => rw [if_pos rfl]; rfl
  | cons x s =>
    rw [if_neg (List.cons_ne_nil _ _)]
    show _ = if (1 : Int) = 1 ∨ e :: x :: s = [] then gn 20 [[pl]] (e :: x :: s) else gn 17 [[pl]] (e :: x :: s)
    rw [if_pos (Or.inl rfl)]
theorem gBrX_0 {pl : Int} {e : Gt} {s : List Gt} {i : Decidable (s = [])} : @ite Gt (s = []) i (gsb pl e) (gn 17 [[pl]] (e :: s)) = gBrX 0 pl (e :: s) := by
  cases s with
  | nil => rw [if_pos rfl]; rfl
  | cons x s =>
    rw [if_neg (List.cons_ne_nil _ _)]
    show _ = if (0 : Int) = 1 ∨ e :: x :: s = [] then gn 20 [[pl]] (e :: x :: s) else gn 17 [[pl]] (e :: x :: s)
    rw [if_neg (fun z => by rcases z with z | z <;> cases z)]
theorem gBrX_e {x3 pl : Int} : gBrX x3 pl [] = gn 20 [[pl]] [] := if_pos (Or.inr rfl)
theorem gBrX_ok {x3 pl : Int} {l : List Gt} {σ : Ps} (hP : ∀ x ∈ l, (3 ≤ gk x ∧ gk x ≤ 20) ∨ (90 ≤ gk x ∧ gk x ≤ 92)) : okEx σ (gBrX x3 pl l) := by
  match l with
  | [e] => exact hP e List.mem_cons_self
  | [] => rw [gBrX_e]; exact Or.inl ⟨(by decide : 3 ≤ 20), (by decide : 20 ≤ 20)⟩
  | x :: y :: l =>
    show okEx σ (if x3 = 1 ∨ x :: y :: l = [] then gn 20 [[pl]] (x :: y :: l) else gn 17 [[pl]] (x :: y :: l))
    split
    · exact Or.inl ⟨(by decide : 3 ≤ 20), (by decide : 20 ≤ 20)⟩
    · exact Or.inl ⟨(by decide : 3 ≤ 17), (by decide : 17 ≤ 20)⟩
theorem gms_brX {c : Bool} {x3 pl : Int} {l : List Gt} (hP : ∀ x ∈ l, (3 ≤ gk x ∧ gk x ≤ 20) ∨ (90 ≤ gk x ∧ gk x ≤ 92)) : gms c [gBrX x3 pl l] = gms c l := by
  match l with
  | [e] =>
    show gms c [gsb pl e] = _
    rw [gms_1, gms_1, gmn_gsb' (Or.inr (hP e List.mem_cons_self))]
  | [] => rw [gBrX_e, gms_1]; exact gmn_tr (by decide)
  | x :: y :: l =>
    show gms c [if x3 = 1 ∨ x :: y :: l = [] then gn 20 [[pl]] (x :: y :: l) else gn 17 [[pl]] (x :: y :: l)] = _
    rw [gms_1]
    split
    · exact gmn_tr (by decide)
    · exact gmn_tr (by decide)
section YExp2
variable {C : YC} {B P O : Nat → Prop} {X : Nat → Nat} {t : List Int} {Γ : Gm} {H H' : YS} {σ σ1 : Ps} {η η1 : Et} {M : List (Gt × Option Nat)} {g h g' h' : Int} {a e c s d dp cap : Nat} {F : List (List Int × Int × Int)} {Q : Option (Option ZV) → YS → Prop} {r : (Int × Nat) ⊕ (Gt × Ps)} {f : Ps → PR} {θ τ : Gt} {w : Option Nat} {l : List Gt} {tk : Tok} {R : PX}
theorem zW_gA {k : Option Nat → ZR YS} {kd f b : Nat} {p : List Int} (s1 : List Gt) {s2 : List Gt} (hkd : kd < 100) (hf : yokF f kd = true) (S : SS C B X t Γ H σ η ((gn kd [p] (s1 ++ oF f (oA b) :: s2), some a) :: M) g h) (hk : zW (k (some b)) Q) : zW (ygR f (some a) H k) Q := by
  obtain ⟨F, h1, G, F1, g1, g2, g3, g4, g5⟩ := S.2.1
  have g4 : YO C B H (gn kd [p] (s1 ++ oF f (oA b) :: s2)) G (some a) := g4
  rw [YO_gn] at g4
  unfold hoA at g4
  rw [if_pos hkd] at g4
  obtain ⟨a', ha, q1, q2, q3, q4, q5⟩ := g4
  cases ha
  rw [List.map_map, List.map_append] at q5
  obtain ⟨A1, A2, r1, r2, r3, r4, E1, E2, e1, e2, e3, e4, e5⟩ := sep_app.mp q5
  have e4 : YO C B H (oF f (oA b)) E1 (yR H (200 + f - 200) a) := e4
  rw [Nat.add_sub_cancel_left] at e4
  have hb := YO_oA.mp (YO_oF.mp e4)
  refine zW_gR q3 hf ?_
  rw [hb]
  exact hk
theorem m_Rules {k : YS → ZR YS} {p0 : List Int} (hd : 6 ≤ d) (S : SS C B X t Γ H σ η ((gn 43 [p0] [], some a) :: M) g h) (hk : ∀ H1 la, SS C B X t Γ H1 σ η ((oC 0 [], some la) :: (oO 43 [] [oF 12900 (oA la)], some a) :: M) (g + 1) (h + 3) → zW (k H1) Q) : zW (zV (ycs (YL C) d 398 (some a) [] H) k) Q := by
  obtain ⟨d, rfl⟩ : ∃ e, d = e + 1 := ⟨d - 1, by omega⟩
  rw [ycs_s]
  refine zW_V (P := fun H1 => ∃ la, SS C B X t Γ H1 σ η ((oC 0 [], some la) :: (oO 43 [] [oF 12900 (oA la)], some a) :: M) (g + 1) (h + 3)) (T := fun _ => False) (zW_c (yl_Rules_init ?_)) (fun H1 ⟨la, w⟩ => hk H1 la w) (fun _ w => w.elim)
  unfold yb_Rules_init
  refine zW_nn (zW_alnew (by omega) S (fun H1 la S1 => ?_))
  have S2 := SS_pk 2 [1, 0] rfl rfl S1
  obtain ⟨_, e, k1, k2, -⟩ := Lv_at (by decide) S2.2.1
  cases e
  refine zW_pR k2 (by decide) (zW_rV ⟨la, ?_⟩)
  have S3 := SS_wr (p' := []) [(12900, la)] (by decide) S2 (yEx_putR (f := 12900) (w := some la) yEx_refl (fun _ => rfl)) (fun _ => trivial) (fun q w => by cases w) (fun q w => by rw [List.mem_singleton.mp w]; exact yputR_at)
  exact SS_pk 2 [1, 0] rfl rfl S3
/-- sign and one more, again and again: block Bk, behind it TAIL -/
theorem y_sq {k mth lev : Nat} {im : Gt → Gt} {ok : Ps → Gt → Prop} {P : Gt → Prop} (hok : ∀ σ τ, ok σ τ → okG (im τ) ∧ P τ) (m j : Nat) (hj : j ∈ cstrs ∧ cstr j = kwd m) (Bk : Nat) (as : Nat → List ZV) (TAIL : Nat → Nat → YS → ZR YS)
    (hbody : ∀ d H a Q, zW (zI (ycv (YL C) d [(6, 108)] (some (X 8)) [.inr (.inr (some (C.1 j)))] H) fun v2 h1 => if v2 = 0 then TAIL d a h1 else zQ (ycv (YL C) d [(6, mth)] (some (X 8)) [] h1) fun v4 h3 => zI (ycv (YL C) d [(5, 505)] (some a) [.inr (.inr v4)] h3) fun _ h5 => YL C d Bk (zr (X 8) :: as a) h5) Q → zW (YL C d Bk (zr (X 8) :: as a) H) Q) :
    ∀ (n : Nat), (∀ n', n' ≤ n → YCf C B X t (sP t n' k [] []) mth lev im ok) → ∀ (Γ : Gm) (H : YS) (σ : Ps) (η : Et) (M : List (Gt × Option Nat)) (g h : Int) (d : Nat) (Q : Option (Option ZV) → YS → Prop) (r : (Int × Nat) ⊕ (Gt × Ps)) (cap a : Nat) (τs : List Gt) (fT : List Gt → Ps → PR), SS C B X t Γ H σ η ((oC cap (τs.map im), some a) :: M) g h → hU mth Γ → g ≤ 3000 → h + 8 * τs.length ≤ 2960 + 4 * cap → cap ≤ 10 + 2 * τs.length → τs.length + pmu t σ ≤ 999 → dep t σ + lev ≤ d → pB (sP t n 14 [(m : Int), (k : Int)] [] σ) (fun l σ2 => fT (τs ++ gs l) σ2) = some r →
      (∀ e p H', r = .inl (e, p) → Th C B X t Γ H' e p → Q none H') →
      (∀ l σ2 H2 η2 cap2, SS C B X t Γ H2 σ2 η2 ((oC cap2 ((τs ++ l).map im), some a) :: M) (g - 30 * l.length) (h + 40 + 8 * τs.length - 4 * cap - 200 * l.length) → (∀ x ∈ l, P x) → Qx t 0 0 σ σ2 → Er η η2 l → (τs ++ l).length + pmu t σ2 ≤ 999 → fT (τs ++ l) σ2 = some r → zW (TAIL d a H2) Q) → zW (YL C d Bk (zr (X 8) :: as a) H) Q := by
  intro n
  induction n with
  | zero =>
    intro _ Γ H σ η M g h d Q r cap a τs fT S hu hg hh hc hl hd he
    cases he
  | succ n ih =>
    intro hel Γ H σ η M g h d Q r cap a τs fT S hu hg hh hc hl hd he her hT
    have d40 := dep_40 S
    refine hbody d H a Q ?_
    have hln : (τs.map im).length = τs.length := List.length_map _
    have he : pB (gSeq t m k (sP t n) σ) (fun l σ2 => fT (τs ++ gs l) σ2) = some r := he
    unfold gSeq at he
    simp only [pB_ite, pB_pT, pB_ass, cons1, pB_pR, gs_gl] at he
    refine zW_takesK m j hj (by omega) S (by omega) (by omega) he her (fun u he => zW_t rfl ?_) (fun u σ1 H1 η1 S1 p1 w1 he => zW_f (by decide) ?_)
    · exact hT [] σ H η cap (by rw [List.append_nil]; exact SS_mono S (by show _ ≤ g - 30 * ((0 : Nat) : Int); omega) (by show _ ≤ h + 40 + 8 * (τs.length : Int) - 4 * cap - 200 * ((0 : Nat) : Int); omega)) (fun x q => by cases q) Qx_0 (Er_1 ⟨rfl, rfl⟩) (by rw [List.append_nil]; exact hl) he
    · have q1 := Qx_p p1
      have m1 := q1.2.2.1
      have d1 := dep_le q1
      refine zW_sub (hel n (by omega)) (by omega) S1 hu (by omega) (by omega) he her (fun x σ2 H2 η2 ro S2 o2 q2 e2 he => ?_)
      have ox := hok _ _ o2
      have m2 := q2.2.2.1
      have d2 := dep_le q2
      refine zW_add (by omega) (by omega) ox.1 (SS_up 1 S2 rfl) (fun H3 cap1 S3 c1 c2 => ?_)
      rw [hln] at c2
      have hmp : τs.map im ++ [im x] = (τs ++ [x]).map im := by rw [List.map_append]; rfl
      rw [hmp] at S3
      have hln2 : (τs ++ [x]).length = τs.length + 1 := by rw [List.length_append]; rfl
      refine ih (fun n' hn' => hel n' (by omega)) Γ H3 σ2 η2 M _ _ d Q r cap1 a (τs ++ [x]) fT S3 hu (by omega) (by rw [hln2]; omega) (by rw [hln2]; omega) (by rw [hln2]; omega) (by omega) (by simp only [List.append_assoc]; exact he) her (fun l σ4 H4 η4 cap4 S4 hP q4 e4 hl4 he4 => ?_)
      have hcons : (τs ++ [x]) ++ l = τs ++ x :: l := by rw [List.append_assoc]; rfl
      rw [hcons, hln2] at S4
      rw [hcons] at hl4 he4
      refine hT (x :: l) σ4 H4 η4 cap4 (SS_mono S4 (by rw [List.length_cons]; omega) (by rw [List.length_cons]; omega)) (fun y hy => ?_) (Qx_to (Qx_t q1 (Qx_t q2 q4)) (by omega) (by omega)) (Er_t (Er_o w1 e2) e4) hl4 he4
      rcases List.mem_cons.mp hy with rfl | hy
      · exact ox.2
      · exact hP y hy
theorem y_602 {x3 pl : Int} (hx : x3 = 0 ∨ x3 = 1) (hd : 22 ≤ d) (hl : l.length < 1000) (hP : ∀ x ∈ l, (3 ≤ gk x ∧ gk x ≤ 20) ∨ (90 ≤ gk x ∧ gk x ≤ 92)) (h0 : 0 < pd σ) (hV : (eV η).length ≤ pd σ) (S : SS C B X t Γ H σ η ((oC cap (l.map ho), some a) :: M) g h) (hg : g ≤ 4000) (hh : h ≤ 4000) (he : pCloses t 29 σ (fun σ4 => pR (gBrX x3 pl l) σ4) = some r) (her : ∀ e p H', r = .inl (e, p) → Th C B X t Γ H' e p → Q none H') (hk : ∀ σ1 H1 η1 ro, r = .inr (gBrX x3 pl l, σ1) → SS C B X t Γ H1 σ1 η1 ((ho (gBrX x3 pl l), ro) :: M) (g - 27 + 9 * l.length) (h - 150 + 34 * l.length) → Po t σ σ1 (pd σ - 1) → Et1 η η1 → Q (some (some (.inr (.inr ro)))) H1) : zW (YL C d 602 [zr (X 8), .inl pl, zr a, .inl x3] H) Q := by
  refine yl_Parser_bracket_p83 ?_
  unfold yb_Parser_bracket_p83
  refine zW_closes 29 117 (by decide) h0 hV (by omega) S hg hh he her (fun _ σ1 H1 η1 S1 p1 w1 he => ?_)
  have hr := (Option.some.inj he).symm
  refine zW_size (by omega) S1 ?_
  rw [List.length_map]
  have row : gBrX x3 pl l = gn 20 [[pl]] l → zW (YL C d 804 [zr (X 8), .inl pl, zr a] H1) Q := by
    intro e
    rw [e] at hr hk
    refine yl_Parser_bracket_p140 ?_
    unfold yb_Parser_bracket_p140
    have S2 := SS_new (kd := 47) (n := 4) (p := []) S1 (by decide) trivial
    refine zW_new ?_
    rw [if_neg (by decide)]
    refine zW_size (by omega) (SS_up 1 S2 rfl) ?_
    rw [List.length_map]
    refine zW_numbered (by omega) hl S2 (fun H3 b3 S3 => ?_)
    have S4 := SS_no (SS_oL (SS_pk 3 [2, 0, 1] rfl rfl S3))
    have S5 := SS_pk 4 [3, 2, 0, 1] rfl rfl S4
    refine m_RowExp (by omega) S5 (fun H6 S6 => zW_rQ (hk σ1 H6 η1 _ hr ?_ p1 w1))
    rw [ho_20]
    exact SS_mono S6 (by omega) (by omega)
  match l, hr, row with
  | [p], hr, row =>
    refine zW_t rfl ?_
    have S1 : SS C B X t Γ H1 σ1 η1 ((oC cap [ho p], some a) :: M) _ _ := S1
    refine zW_br1X (by omega) (hP p List.mem_cons_self) S1 (fun H2 ro S2 => hk σ1 H2 η1 ro hr (SS_mono S2 ?_ ?_) p1 w1)
    · show _ ≤ g - 27 + 9 * ((1 : Nat) : Int); omega
    · show _ ≤ h - 150 + 34 * ((1 : Nat) : Int); omega
  | [], hr, row =>
    refine zW_f (by decide) ?_
    refine zW_if (fun z => ?_) (fun z => row gBrX_e)
    refine zW_empty (by omega) S1 (zW_f (by decide) (row gBrX_e))
  | x :: y :: l, hr, row =>
    have hll : (x :: y :: l).length = l.length + 2 := rfl
    refine zW_f (by rw [hll]; omega) ?_
    refine zW_if (fun z => ?_) (fun z => row (if_pos (Or.inl (by omega))))
    refine zW_empty (by omega) S1 (zW_t rfl ?_)
    have e17 : gBrX x3 pl (x :: y :: l) = gn 17 [[pl]] (x :: y :: l) := if_neg (fun q => q.elim (fun q => by omega) (fun q => by cases q))
    rw [e17] at hr hk
    have S2 := SS_new (kd := 46) (n := 2) (p := []) S1 (by decide) trivial
    refine zW_new ?_
    rw [if_neg (by decide)]
    have S4 := SS_pk 2 [1, 0] rfl rfl (SS_oL (SS_pk 2 [1, 0] rfl rfl S2))
    refine m_Sequence (by omega) S4 (fun H6 S6 => zW_rQ (hk σ1 H6 η1 _ hr ?_ p1 w1))
    rw [ho_17]
    exact SS_mono S6 (by omega) (by omega)
theorem y_ruleLoop : ∀ (n : Nat), (∀ n', n' < n → YCf C B X t (sP t n' 20 [] []) 109 10 ho okPa) → (∀ n', n' < n → YCf C B X t (sP t n' 0 [] []) 140 10 ho okEx) → ∀ (Γ : Gm) (H : YS) (σ : Ps) (η : Et) (M : List (Gt × Option Nat)) (g h : Int) (d : Nat) (Q : Option (Option ZV) → YS → Prop) (r : (Int × Nat) ⊕ (Gt × Ps)) (cap la a : Nat) (τs : List Gt) (fT : List Gt → Ps → PR), SS C B X t Γ H σ η ((oC cap (τs.map ho), some la) :: (oO 43 [] [oF 12900 (oA la)], some a) :: M) g h → Γ.2.2.2.2 = 0 → g ≤ 3000 → h + 8 * τs.length ≤ 2960 + 4 * cap → cap ≤ 10 + 2 * τs.length → τs.length + pmu t σ ≤ 999 → dep t σ + 11 ≤ d → pB (sP t n 2 [] [] σ) (fun l σ2 => fT (τs ++ gs l) σ2) = some r →
      (∀ e p H', r = .inl (e, p) → Th C B X t Γ H' e p → Q none H') →
      (∀ l σ2 H2 η2 cap2, SS C B X t Γ H2 σ2 η2 ((oC cap2 ((τs ++ l).map ho), some la) :: (oO 43 [] [oF 12900 (oA la)], some a) :: M) (g - 40 * l.length) (h + 40 + 8 * τs.length - 4 * cap - 200 * l.length) → l ≠ [] → Qx t 0 1 σ σ2 → Er η η2 l → fT (τs ++ l) σ2 = some r → Q (some (some (.inr (.inr (some a))))) H2) → zW (YL C d 593 [zr (X 8), zr a] H) Q := by
  intro n
  induction n with
  | zero =>
    intro _ _ Γ H σ η M g h d Q r cap la a τs fT S hu hg hh hc hl hd he
    cases he
  | succ n ih =>
    intro h20 h0 Γ H σ η M g h d Q r cap la a τs fT S hu hg hh hc hl hd he her hT
    have d40 := dep_40 S
    have vl := SS_vl S
    have hmp : (τs.map ho).length = τs.length := List.length_map _
    have he : pB (gRules t (sP t n) σ) (fun l σ2 => fT (τs ++ gs l) σ2) = some r := he
    unfold gRules at he
    simp only [pB_pT, pB_ite, pB_pR, pB_pWr, pB_in, pB_ass, pB_pNeed, pB_pOpens, pB_pCloses, pB_pName, pB_pAny, pB_pOpn, pB_pLab, gs_gl, cons1] at he
    refine yl_Parser_rules_p8 ?_
    unfold yb_Parser_rules_p8
    refine zW_sub (h20 n (by omega)) (by omega) S hu (by omega) (by omega) he her (fun t1 σ1 H1 η1 ro1 S1 o1 q1 e1 he => ?_)
    have m1 := q1.2.2.1
    have d1 := dep_le q1
    have vn1 := Er_len e1
    have vd1 := q1.1
    refine zW_let ?_
    refine zW_need 41 136 (by decide) (by omega) S1 (by omega) (by omega) he her (fun _ σ2 H2 η2 S2 p2 w2 he => ?_)
    have q2 := Qx_p p2
    have m2 := q2.2.2.1
    have d2 := dep_le q2
    have vn2 := congrArg List.length w2.2
    have vd2 := q2.1
    refine zW_gA [] (by decide) (by decide) (SS_up 2 S2 rfl) ?_
    have S3 := SS_new (kd := 44) (n := 2) (p := []) S2 (by decide) trivial
    refine zW_new ?_
    rw [if_neg (show ¬ (44 : Nat) = 3 by decide)]
    refine zW_sub (h0 n (by omega)) (by omega) S3 hu (by omega) (by omega) he her (fun t4 σ4 H4 η4 ro4 S4 o4 q4 e4 he => ?_)
    have m4 := q4.2.2.1
    have d4 := dep_le q4
    have vn4 := Er_len e4
    have vd4 := q4.1
    have S5 := SS_pk 3 [1, 2, 0] rfl rfl S4
    refine m_Rule (by omega) S5 (fun H6 S6 => ?_)
    have S8 := SS_pk 2 [1, 0] rfl rfl S6
    refine zW_add (by omega) (by omega) (okO (by decide)) S8 (fun H7 c7 S7 f7 f7' => ?_)
    refine zW_takes 39 137 (by decide) (by omega) S7 (by omega) (by omega) he her (fun u9 he => ?_) (fun u9 σ9 H9 η9 S9 p9 w9 he => ?_)
    · rw [← ho_61, show τs.map ho ++ [ho (gn 61 [] [t1, t4])] = (τs ++ [gn 61 [] [t1, t4]]).map ho by rw [List.map_append]; rfl] at S7
      exact zW_rQ (hT [gn 61 [] [t1, t4]] σ4 H7 η4 _ (SS_mono S7 (by show _ ≤ g - 40 * ((1 : Nat) : Int); omega) (by show _ ≤ h + 40 + 8 * (τs.length : Int) - 4 * cap - 200 * ((1 : Nat) : Int); omega)) (fun q => by cases q) (Qx_to (Qx_t q1 (Qx_t q2 q4)) (by omega) (by omega)) (Er_n (by decide) (Er_t (Er_e e1 w2) e4)) he)
    · have q9 := Qx_p p9
      have m9 := q9.2.2.1
      have d9 := dep_le q9
      have vn9 := congrArg List.length w9.2
      have vd9 := q9.1
      rw [← ho_61, show τs.map ho ++ [ho (gn 61 [] [t1, t4])] = (τs ++ [gn 61 [] [t1, t4]]).map ho by rw [List.map_append]; rfl] at S9
      have hln2 : (τs ++ [gn 61 [] [t1, t4]]).length = τs.length + 1 := by rw [List.length_append]; rfl
      have e60 : Er η η9 [gn 61 [] [t1, t4]] := Er_n (by decide) (Er_e (Er_t (Er_e e1 w2) e4) w9)
      refine ih (fun n' hn' => h20 n' (by omega)) (fun n' hn' => h0 n' (by omega)) Γ H9 σ9 η9 M _ _ d Q r _ la a (τs ++ [gn 61 [] [t1, t4]]) fT S9 hu (by omega) (by rw [hln2]; omega) (by rw [hln2]; omega) (by rw [hln2]; omega) (by omega) (by simp only [List.append_assoc]; exact he) her (fun l σ95 H95 η95 cap95 S95 _ q95 e95 he95 => ?_)
      have hcons : (τs ++ [gn 61 [] [t1, t4]]) ++ l = τs ++ gn 61 [] [t1, t4] :: l := by rw [List.append_assoc]; rfl
      rw [hcons, hln2] at S95
      rw [hcons] at he95
      exact hT (gn 61 [] [t1, t4] :: l) σ95 H95 η95 cap95 (SS_mono S95 (by rw [List.length_cons]; omega) (by rw [List.length_cons]; omega)) (fun q => by cases q) (Qx_to (Qx_t (Qx_t q1 (Qx_t q2 (Qx_t q4 q9))) q95) (by omega) (by omega)) (Er_t e60 e95) he95
theorem y_rules {n : Nat} (h20 : ∀ n', n' ≤ n → YCf C B X t (sP t n' 20 [] []) 109 10 ho okPa) (h0 : ∀ n', n' ≤ n → YCf C B X t (sP t n' 0 [] []) 140 10 ho okEx) (hlen : t.length ≤ 900) : YCl C B X t (gRules t (sP t n)) 143 11 imR (fun _ _ => True) := by
  intro Γ H σ η M g h d Q r S hu hg hh hd he her hk
  have d40 := dep_40 S
  have hmu := pmu_le (t := t) (σ := σ)
  refine yl_Parser_rules ?_
  unfold yb_Parser_rules
  have S1 := SS_new (kd := 43) (n := 2) (p := []) S (by decide) trivial
  refine zW_new ?_
  rw [if_neg (by decide)]
  refine m_Rules (by omega) S1 (fun H2 la S2 => zW_let ?_)
  rw [← gRules_gl] at he
  refine y_ruleLoop (n + 1) (fun n' q => h20 n' (by omega)) (fun n' q => h0 n' (by omega)) Γ H2 σ η M _ _ d Q r 0 la _ [] (fun l σ2 => pR (gl l) σ2) S2 hu (by omega) (by show _ + 8 * ((0 : Nat) : Int) ≤ _; omega) (by omega) (by show 0 + _ ≤ _; omega) (by omega) he her (fun l σ3 H3 η3 cap3 S3 n3 q3 e3 he3 => ?_)
  simp only [List.length_nil, List.nil_append] at S3 he3
  have hl1 : 1 ≤ l.length := List.length_pos_iff.mpr n3
  have hr := (Option.some.inj he3).symm
  have S4 := SS_oL S3
  have S5 := SS_pk 2 [1, 0] rfl rfl S4
  have S6 := SS_nest [] (by decide) S5
  refine hk (gl l) σ3 H3 η3 _ hr ?_ trivial (Qx_to q3 (by omega) (by omega)) (Er_n (by decide) e3)
  unfold imR
  rw [ho_gl]
  exact SS_mono S6 (by omega) (by omega)
end YExp2
